/-! THE MACHINE'S OWN EXCEPTIONS over the abstract world -/
/-- behind such a throw: three cells more, the map as it was -/
def jth (S : jS) : jS := (S.1, S.2.1 - 3, S.2.2.1 - 400, S.2.2.2)
def jbad (S : jS) (B : Prop) : Prop := 3 ≤ S.2.1 ∧ 400 ≤ S.2.2.1 ∧ B
def jalx (t : Nat) (S : jS) (a : Nat) (i : Int32) (K : Int32 → Prop) (B : Prop) : Prop := ∃ (n : Nat) (f : Nat → Int32), S.1 a = some (t, .inl (n, f)) ∧ n ≤ 65535 ∧ (vp_in i n → K (f i.toNatClampNeg)) ∧ (¬ vp_in i n → jbad S B)
def jasx (t : Nat) (S : jS) (a : Nat) (i x : Int32) (K : jS → Prop) (B : Prop) : Prop := ∃ (n : Nat) (f : Nat → Int32), S.1 a = some (t, .inl (n, f)) ∧ n ≤ 65535 ∧ (vp_in i n → K (jset S a (t, .inl (n, upd f i.toNatClampNeg (jnar t x))))) ∧ (¬ vp_in i n → jbad S B)
def jnewax (t : Nat) (S : jS) (n : Int32) (K : jS → Nat → Prop) (B : Prop) : Prop := (¬ n < 0 → jnewa t S n K) ∧ (n < 0 → jbad S B)
def jca (t : Nat) (S : jS) (a : Nat) : Prop := ∃ (n : Nat) (f : Nat → Int32), S.1 a = some (t, .inl (n, f))
def jcax (t : Nat) (S : jS) (a : Nat) (K : Prop) (B : Prop) : Prop := ∃ (t2 n : Nat) (f : Nat → Int32), S.1 a = some (t2, .inl (n, f)) ∧ t2 < 3 ∧ (t2 = t → K) ∧ (¬ t2 = t → jbad S B)
def jia (t : Nat) (S : jS) (a : Nat) (K : Int32 → Prop) : Prop := ∃ (t2 n : Nat) (f : Nat → Int32), S.1 a = some (t2, .inl (n, f)) ∧ t2 < 3 ∧ (t2 = t → K 1) ∧ (¬ t2 = t → K 0)
def jan (t : Nat) : String := if t = 0 then "[I" else if t = 1 then "[B" else "[S"
section JV0
variable {p : Program} {l : Launch} {e : Env} {R : Room} {s : State} {m : MethodId} {args : Array Value} {below : List Frame} {meth : Method} {c : Code} {T : State} {locs : List Loc} {cells slots : Nat}
/-- a checkcast that fails: the machine notes ClassCastException -/
theorem j_castNo (X : Stand p l e R s m args below meth c T locs cells slots) (hexec : p.tables.exec = Jvm.exec)
    {own name : String} {index : Nat} (hown : s.vm.findClass own = some m.cls) (hlink : (Cond.classLink own index name).before args s = true)
    {a : Addr} {cell : Cell} {cT : ClassId} {ks : Class} (hcell : T.heap[a]? = some cell) (hobj : cell.vm.isStatics = false) (hks : s.vm.classes[cell.cls]? = some ks) (hcT : s.vm.findClass name = some cT) (hasg : s.vm.assignable cell.cls cT = false)
    {g : JFrame} (hg : g.method = m) {rest : List Value} (hstack : g.stack = .ref a :: rest) (hdg : decode c.code g.pc = .ok (.checkcast index, 3)) :
    ∃ (vm' : Vm) (k1 k2 : Class), Stand p l e R s m args below meth c (T.setVm vm') locs cells slots ∧ s.vm.Alike vm' ∧ vm'.classes[cell.cls]? = some k1 ∧ vm'.classes[cT]? = some k2 ∧
      ∀ target, Steps p.tables e below (((T.setVm vm').setTop g).pushFrame (.throwNew "java/lang/ClassCastException" (some (checkcast.message vm' k1 k2)) none)) target → Steps p.tables e below (T.setTop g) target := by
  have hpl : e.platform.magicAccessors = ({} : Platform).magicAccessors := by rw [X.admits.platform]
  obtain ⟨c', hc', hcl⟩ := Cond.classLink_spec hown hlink e.platform hpl
  cases hcT.symm.trans hc'
  obtain ⟨dk, _, _, kt, hd, _, _, _, _, hkt, _, hopen⟩ := hcl.here
  have hcl₀ := X.warmed.classLinks hcl
  have hW' : s.WarmedH (T.vm.noted m.cls index (.cls cT)) := X.warmed.noted hd hopen (State.rightAt_cls hcl)
  obtain ⟨ks', hks', -⟩ := hW'.alike.2.2 _ _ hks
  obtain ⟨kt', hkt', -⟩ := hW'.alike.2.2 _ _ hkt
  refine ⟨_, ks', kt', X.noted hW', hW'.alike, hks', hkt', fun target hrest => ?_⟩
  subst hg
  jvm_step X.here [hexec, hdg, checkcast.wp_cold (e := e) (s := T) (f := g) X.here.top hstack (resolveClass_links e.toSetting hcl₀) hcl₀.ready,
    checkcast.wp_ready (e := e) (s := T.setVm (T.vm.noted g.method.cls index (.cls cT))) (f := g) X.here.top hcl₀.ready hstack]
  refine ⟨cell, hcell, VmData.noStatics_of hobj, ks', hks', kt', hkt', ?_⟩
  have h1 : (T.vm.noted g.method.cls index (Resolved.cls cT)).assignable cell.cls cT = false := by rw [hW'.alike.assignable]; exact hasg
  simp only [h1]
  exact hrest
end JV0
/-- the texts that such a note may have -/
def jcct (n n2 : String) : List String := ["class " ++ n ++ " cannot be cast to class " ++ n2 ++ " (" ++ (n ++ " and " ++ n2 ++ " are in " ++ ("module " ++ "java.base" ++ " of loader " ++ "'bootstrap'")) ++ ")", "class " ++ n ++ " cannot be cast to class " ++ n2 ++ " (" ++ (n ++ " and " ++ n2 ++ " are in " ++ ("unnamed module" ++ " of loader " ++ "'bootstrap'")) ++ ")"]
theorem j_find {vm : Vm} {n : String} {c : ClassId} {k : Class} (h : vm.findClass n = some c) (hk : vm.classes[c]? = some k) : k.name = n ∧ k.hidden = none ∧ k.loader = none := by
  obtain ⟨hlt, hp, _⟩ := Array.findIdx?_eq_some_iff_getElem.mp h
  have e : vm.classes[c] = k := by
    have := Array.getElem?_eq_getElem hlt
    exact Option.some.inj (this.symm.trans hk)
  rw [e] at hp
  simp only [Bool.and_eq_true, beq_iff_eq, Option.isNone_iff_eq_none] at hp
  exact ⟨hp.1.1.1, hp.1.1.2, hp.2⟩
theorem j_cct {vm : Vm} {n n2 : String} {c c2 : ClassId} {k k2 : Class} {t t2 : ClassId} {ty ty2 : FieldType} (h : vm.findClass n = some c) (hk : vm.classes[c]? = some k) (h2 : vm.findClass n2 = some c2) (hk2 : vm.classes[c2]? = some k2) (ha : k.kind = .array t ty) (ha2 : k2.kind = .array t2 ty2) (hn : (withoutBrackets n).length == 1) (hn2 : (withoutBrackets n2).length == 1) (hd : dotted n = n) (hd2 : dotted n2 = n2) : checkcast.message vm k k2 ∈ jcct n n2 := by
  obtain ⟨a1, a2, a3⟩ := j_find h hk
  obtain ⟨b1, b2, b3⟩ := j_find h2 hk2
  have o1 : k.ofPrimitives = true := by unfold Class.ofPrimitives; rw [ha]; simpa [a1] using hn
  have o2 : k2.ofPrimitives = true := by unfold Class.ofPrimitives; rw [ha2]; simpa [b1] using hn2
  have m1 : vm.moduleOf k = vm.modules.find? (·.name == "java.base") := by unfold Vm.moduleOf; rw [if_pos o1]
  have m2 : vm.moduleOf k2 = vm.modules.find? (·.name == "java.base") := by unfold Vm.moduleOf; rw [if_pos o2]
  have s1 : k.shown = n := by unfold Class.shown; rw [a2, a1]; exact hd
  have s2 : k2.shown = n2 := by unfold Class.shown; rw [b2, b1]; exact hd2
  have hs : vm.sameModule k k2 = true := by
    unfold Vm.sameModule
    rw [m1, m2, a3, b3]
    cases vm.modules.find? (·.name == "java.base") <;> simp
  unfold checkcast.message Vm.homes
  rw [if_pos hs, s1, s2]
  unfold Vm.home Vm.loaderName
  rw [m1, a3]
  cases hm : vm.modules.find? (·.name == "java.base") with
  | none => exact List.mem_cons_of_mem _ (List.mem_singleton.mpr rfl)
  | some m =>
    have := List.find?_some hm
    have hb : m.name = "java.base" := by simpa using this
    dsimp only
    rw [hb]
    exact List.mem_cons.mpr (Or.inl rfl)
theorem j_cctS : ∀ t : Nat, t < 3 → ∀ t2 : Nat, t2 < 3 → ∀ x ∈ jcct (jan t) (jan t2), (stringBytes (stringToUtf16 x)).size ≤ 390 ∧ (x == notModelled) = false := by decide +kernel
section JV1
variable {Z : jZ} {d : Nat} {cc : ByteArray} {own : String} {ret : Option FieldType} {y : MethodName} {pc : Nat} {S : jS} {lv : List (Nat × Value)} {st : List Value}
theorem j_note (C : jC Z d cc own ret y) (hd : 170 ≤ d) (hst : (st.map fun v => v.category).sum ≤ 8) {e : Nat} {E : String} {names : List String} (hE : jex[e]? = some E) (hfit : Bundle.fit E = true) (hnames : ∀ n ∈ names, Bundle.fit n = true) (hsoe : (E == "java/lang/StackOverflowError") = false) (hoom : (E == "java/lang/OutOfMemoryError") = false) (hlen : names.length ≤ 3)
    (hw : (vx_atM E names).all (fun w => decide (w ∈ lw_all) || decide (w ∈ jxw)) = true) (ho : (vx_atM E names).all vx_ot = true) {text : String} (htext : (text == notModelled) = false) (hnb : (stringBytes (stringToUtf16 text)).size ≤ 390)
    {H : Heap} {locs : List Loc} {ls : Array Slot} {k n : Nat} (hW : jW Z.2.1 S H) (hz : (zs Z).heap.size ≤ H.size) (hL : ∀ q ∈ locs, gz Z.2.1 ≤ q.base) (hls : lv_has ls Z.2.2.1 lv) (hk : k + (zs Z).heap.size = H.size) (hn : n + jsl (zs Z).heap (gz Z.2.1) = jsl H (gz Z.2.1)) (hr : 3 ≤ S.2.1 ∧ 400 ≤ S.2.2.1) (kk : ∀ q : Nat, jT Z (jth S) lv pc st e q) :
    vx_Note (zp Z) (zl Z) (ze Z) (zR Z) (zs Z) (zm Z) (za Z) (zb Z) (zt Z) (zc Z) H locs k n Z.2.2.2 (F0 (zm Z) pc ls st) E text := by
  have hKx := C.2.2.2.2.2.2.2.1.2.2.2.2.1.2
  have hz0 := C.2.2.2.2.2.2.2.2.1
  have hh0 := C.2.2.2.2.2.2.2.2.2.1
  have hRc := C.2.2.2.2.2.2.2.2.2.2.1
  have hRs := C.2.2.2.2.2.2.2.2.2.2.2.1
  have hF := C.2.2.2.2.2.2.2.2.2.2.2.2.1
  have hLo := C.2.2.2.2.2.2.2.2.2.2.2.2.2.1
  have g4 := hW.2.2.2.1
  have g5 := hW.2.2.2.2.1
  have hq : ∀ a : Nat, a < (gH Z.2.1).size → ¬ gz Z.2.1 ≤ a → (zs Z).heap[a]? = (gH Z.2.1)[a]? := fun a _ h => hh0 a (by omega)
  have hU : vx_Zq Bundle.tN "UNASSIGNED_STACK" Bundle.steD (fun q => gz Z.2.1 ≤ q) (zs Z) (zs Z).heap := by
    refine vx_Zq.kept ⟨?_, hKx.2.2.1⟩ hq
    have h4 := C.2.2.2.2.2.2.2.1.2.2.2.2.2.1 4 _ rfl
    obtain ⟨r, hr⟩ := hKx.1
    rw [hr] at h4
    cases r with
    | none => exact Or.inl h4
    | some t => exact Or.inr ⟨t, h4⟩
  have hN : vx_Zq Bundle.tN "SUPPRESSED_SENTINEL" Bundle.listD (fun q => gz Z.2.1 ≤ q) (zs Z) (zs Z).heap := by
    refine vx_Zq.kept ⟨?_, hKx.2.2.2⟩ hq
    have h4 := C.2.2.2.2.2.2.2.1.2.2.2.2.2.1 5 _ rfl
    obtain ⟨r, hr⟩ := hKx.2.1
    rw [hr] at h4
    cases r with
    | none => exact Or.inl h4
    | some t => exact Or.inr ⟨t, h4⟩
  have hS : va_S (fun q => gz Z.2.1 ≤ q) (zs Z).heap H locs := ⟨hz, fun q h1 h2 => by rw [hW.2.2.1 q (by omega), hh0 q (by omega)], hL⟩
  have hat : ∀ w ∈ vx_atM E names, w.before (za Z) (zs Z) = true := by
    intro w h
    have h1 := List.all_eq_true.mp hw w h
    simp only [Bool.or_eq_true, decide_eq_true_eq] at h1
    rcases h1 with h1 | h1
    · exact C.2.2.2.2.1 _ h1
    · have h2 := C.2.2.2.2.2.2.2.1.2.2.2.1 _ h1
      have h3 := List.all_eq_true.mp ho w h
      simp only [vx_ot, Bool.or_eq_true] at h3
      rcases h3 with h3 | h3
      · exact va_Nw.use h3 h2
      · exact word_at (s := zs Z) (U := zs Z) (State.WarmedH.refl _) (good_of_word h3) h2
  refine vx_vm (nb := 390) C.1 C.2.2.2.2.2.2.2.2.2.2.2.2.2.2.2 hfit hnames hsoe hoom hat (fun w h => List.all_eq_true.mp ho w h) hU hN hS (by rw [C.2.2.1]; exact hls.1) htext hnb (by decide) (by show _ < (zR Z).frames; omega) (by show _ ≤ (zR Z).locals; omega) (by omega) (by show _ ≤ (zR Z).cells; omega) (by show _ ≤ (zR Z).slots; omega) C.2.2.2.2.2.2.1 ?_
  intro H1 q9 ce h1 h2 h3 h4 h5 h6 T hT X9
  obtain ⟨x1, x2, x3, x4, x5, x6⟩ := X9.same
  have hH : (T.setVm (zs Z).vm).heap = H1 := hT
  rw [hH] at x2 x3 x4 x5 x6
  have hsz : ∀ a : Nat, a < (zs Z).heap.size → (H1[a]?).map (fun c => c.slots.size) = ((zs Z).heap[a]?).map (fun c => c.slots.size) := by
    intro a ha
    obtain ⟨c', q1, -, q3, -⟩ := x6 a _ (Array.getElem?_eq_getElem ha)
    rw [q1, Array.getElem?_eq_getElem ha]
    simp [q3]
  have hn2 := jsl_split hz0 x2 hsz
  have x5' : jsl H1 (zs Z).heap.size ≤ n + (390 + 10) := x5
  have hW1 : jW Z.2.1 (jth S) H1 := by
    have w1 := hW.2.1
    have w2 : gz Z.2.1 ≤ H1.size := Nat.le_trans w1 h1
    have w3 : ∀ q : Nat, q < gz Z.2.1 → H1[q]? = (gH Z.2.1)[q]? := fun q hq => (h2 q (Nat.lt_of_lt_of_le hq w1)).trans (hW.2.2.1 q hq)
    have w4 : (jth S).2.2.2 = gV Z.2.1 := by unfold jth; exact hW.2.2.2.2.2
    refine ⟨fun a f hf => ?_, w2, w3, ?_, ?_, w4⟩
    · have hf : S.1 a = some f := by unfold jth at hf; exact hf
      rcases hW.1 a f hf with ⟨q0, q1, q2⟩ | q
      · exact Or.inl ⟨q0, q1.kept (h2 a q1.lt), q2⟩
      · exact Or.inr q
    · show H1.size + (S.2.1 - 3) ≤ _
      omega
    · show jsl H1 _ + (S.2.2.1 - 400) ≤ _
      omega
  exact kk q9 H1 locs _ _ ls E ce hW1 (by omega) hL hls hE h4 h5 h6 T hT X9

theorem jr_ialdX (C : jC Z d cc own ret y) (pc' : Nat) (hp : pc + 1 = pc') (hdg : decode cc pc = .ok (.iaload, 1)) (hd : 170 ≤ d) (hst : (st.map fun v => v.category).sum ≤ 8) {a : Nat} {i : Int32} {K : Int32 → Prop} {B : Nat → Prop} (h : jalx 0 S a i K (∀ q, B q)) (kk : ∀ v : Int32, K v → jJ Z S lv pc' (.int v :: st)) (kx : ∀ q : Nat, B q → jT Z (jth S) lv pc st 2 q) : jJ Z S lv pc (.int i :: .ref a :: st) := by
  obtain ⟨n, f, h1, hn9, hin, hout⟩ := h
  by_cases c : vp_in i n
  · exact jr_iald C pc' hp hdg ⟨n, f, h1, c, hin c⟩ kk
  intro H locs cells slots ls hW hz hL hls
  refine W.tight C.2.2.2.2.2.2.2.2.1 fun k n1 hk hn => ?_
  obtain ⟨b1, b2, b3⟩ := hout c
  have hja := j_rw hW h1 (show (0 : Nat) < 10 by decide)
  intro T hT X
  obtain ⟨t9, st9, q9⟩ := j_note C hd hst (e := 2) (names := ["java/lang/IndexOutOfBoundsException", "java/lang/RuntimeException", "java/lang/Exception"]) rfl (by decide +kernel) (by decide +kernel) (by decide +kernel) (by decide +kernel) (by decide) jvw2 jvo2 (index_text_modelled i n) (Nat.le_trans (index_text_bytes i (by omega)) (by decide)) hW hz hL hls hk hn ⟨b1, b2⟩ (fun q => kx q (b3 q)) T hT X
  refine ⟨t9, ?_, q9⟩
  have h9 := X.ialoadOut C.1 (by rw [hT]; exact hja.1) (j_arI C.2.2.2.2.2.2.2.1 (t := 0) rfl (by decide) n f) (j := i) (by show (i < 0 ∨ (arrV _ _ _).slots.size ≤ _); rw [arrV_size]; exact Classical.byContradiction c) (g := F0 (zm Z) pc ls (.int i :: .ref a :: st)) rfl (rest := st) rfl (by rw [C.2.1]; exact hdg) t9
  have h8 : (vp_cell (gA Z.2.1 0) (n, .inl f)).slots.size = n := by rw [vp_cell_i, arrV_size]
  rw [h8] at h9
  exact h9 st9
theorem jr_baldX (C : jC Z d cc own ret y) (pc' : Nat) (hp : pc + 1 = pc') (hdg : decode cc pc = .ok (.baload, 1)) (hd : 170 ≤ d) (hst : (st.map fun v => v.category).sum ≤ 8) {a : Nat} {i : Int32} {K : Int32 → Prop} {B : Nat → Prop} (h : jalx 1 S a i K (∀ q, B q)) (kk : ∀ v : Int32, K v → jJ Z S lv pc' (.int v :: st)) (kx : ∀ q : Nat, B q → jT Z (jth S) lv pc st 2 q) : jJ Z S lv pc (.int i :: .ref a :: st) := by
  obtain ⟨n, f, h1, hn9, hin, hout⟩ := h
  by_cases c : vp_in i n
  · exact jr_bald C pc' hp hdg ⟨n, f, h1, c, hin c⟩ kk
  intro H locs cells slots ls hW hz hL hls
  refine W.tight C.2.2.2.2.2.2.2.2.1 fun k n1 hk hn => ?_
  obtain ⟨b1, b2, b3⟩ := hout c
  have hja := j_rw hW h1 (show (1 : Nat) < 10 by decide)
  intro T hT X
  obtain ⟨t9, st9, q9⟩ := j_note C hd hst (e := 2) (names := ["java/lang/IndexOutOfBoundsException", "java/lang/RuntimeException", "java/lang/Exception"]) rfl (by decide +kernel) (by decide +kernel) (by decide +kernel) (by decide +kernel) (by decide) jvw2 jvo2 (index_text_modelled i n) (Nat.le_trans (index_text_bytes i (by omega)) (by decide)) hW hz hL hls hk hn ⟨b1, b2⟩ (fun q => kx q (b3 q)) T hT X
  refine ⟨t9, ?_, q9⟩
  have h9 := X.baloadOut C.1 (by rw [hT]; exact hja.1) (j_arI C.2.2.2.2.2.2.2.1 (t := 1) rfl (by decide) n f) (j := i) (by show (i < 0 ∨ (arrV _ _ _).slots.size ≤ _); rw [arrV_size]; exact Classical.byContradiction c) (g := F0 (zm Z) pc ls (.int i :: .ref a :: st)) rfl (rest := st) rfl (by rw [C.2.1]; exact hdg) t9
  have h8 : (vp_cell (gA Z.2.1 1) (n, .inl f)).slots.size = n := by rw [vp_cell_i, arrV_size]
  rw [h8] at h9
  exact h9 st9
theorem jr_saldX (C : jC Z d cc own ret y) (pc' : Nat) (hp : pc + 1 = pc') (hdg : decode cc pc = .ok (.saload, 1)) (hd : 170 ≤ d) (hst : (st.map fun v => v.category).sum ≤ 8) {a : Nat} {i : Int32} {K : Int32 → Prop} {B : Nat → Prop} (h : jalx 2 S a i K (∀ q, B q)) (kk : ∀ v : Int32, K v → jJ Z S lv pc' (.int v :: st)) (kx : ∀ q : Nat, B q → jT Z (jth S) lv pc st 2 q) : jJ Z S lv pc (.int i :: .ref a :: st) := by
  obtain ⟨n, f, h1, hn9, hin, hout⟩ := h
  by_cases c : vp_in i n
  · exact jr_sald C pc' hp hdg ⟨n, f, h1, c, hin c⟩ kk
  intro H locs cells slots ls hW hz hL hls
  refine W.tight C.2.2.2.2.2.2.2.2.1 fun k n1 hk hn => ?_
  obtain ⟨b1, b2, b3⟩ := hout c
  have hja := j_rw hW h1 (show (2 : Nat) < 10 by decide)
  intro T hT X
  obtain ⟨t9, st9, q9⟩ := j_note C hd hst (e := 2) (names := ["java/lang/IndexOutOfBoundsException", "java/lang/RuntimeException", "java/lang/Exception"]) rfl (by decide +kernel) (by decide +kernel) (by decide +kernel) (by decide +kernel) (by decide) jvw2 jvo2 (index_text_modelled i n) (Nat.le_trans (index_text_bytes i (by omega)) (by decide)) hW hz hL hls hk hn ⟨b1, b2⟩ (fun q => kx q (b3 q)) T hT X
  refine ⟨t9, ?_, q9⟩
  have h9 := X.saloadOut C.1 (by rw [hT]; exact hja.1) (j_arI C.2.2.2.2.2.2.2.1 (t := 2) rfl (by decide) n f) (j := i) (by show (i < 0 ∨ (arrV _ _ _).slots.size ≤ _); rw [arrV_size]; exact Classical.byContradiction c) (g := F0 (zm Z) pc ls (.int i :: .ref a :: st)) rfl (rest := st) rfl (by rw [C.2.1]; exact hdg) t9
  have h8 : (vp_cell (gA Z.2.1 2) (n, .inl f)).slots.size = n := by rw [vp_cell_i, arrV_size]
  rw [h8] at h9
  exact h9 st9
theorem jr_iastX (C : jC Z d cc own ret y) (pc' : Nat) (hp : pc + 1 = pc') (hdg : decode cc pc = .ok (.iastore, 1)) (hd : 170 ≤ d) (hst : (st.map fun v => v.category).sum ≤ 8) {a : Nat} {i x : Int32} {K : jS → Prop} {B : Nat → Prop} (h : jasx 0 S a i x K (∀ q, B q)) (kk : ∀ S1 : jS, K S1 → jJ Z S1 lv pc' st) (kx : ∀ q : Nat, B q → jT Z (jth S) lv pc st 2 q) : jJ Z S lv pc (.int x :: .int i :: .ref a :: st) := by
  obtain ⟨n, f, h1, hn9, hin, hout⟩ := h
  by_cases c : vp_in i n
  · exact jr_iast C pc' hp hdg ⟨n, f, h1, c, hin c⟩ kk
  intro H locs cells slots ls hW hz hL hls
  refine W.tight C.2.2.2.2.2.2.2.2.1 fun k n1 hk hn => ?_
  obtain ⟨b1, b2, b3⟩ := hout c
  have hja := j_rw hW h1 (show (0 : Nat) < 10 by decide)
  intro T hT X
  obtain ⟨t9, st9, q9⟩ := j_note C hd hst (e := 2) (names := ["java/lang/IndexOutOfBoundsException", "java/lang/RuntimeException", "java/lang/Exception"]) rfl (by decide +kernel) (by decide +kernel) (by decide +kernel) (by decide +kernel) (by decide) jvw2 jvo2 (index_text_modelled i n) (Nat.le_trans (index_text_bytes i (by omega)) (by decide)) hW hz hL hls hk hn ⟨b1, b2⟩ (fun q => kx q (b3 q)) T hT X
  refine ⟨t9, ?_, q9⟩
  have h9 := X.iastoreOut C.1 (by rw [hT]; exact hja.1) (j_arI C.2.2.2.2.2.2.2.1 (t := 0) rfl (by decide) n f) (j := i) (by show (i < 0 ∨ (arrV _ _ _).slots.size ≤ _); rw [arrV_size]; exact Classical.byContradiction c) (g := F0 (zm Z) pc ls (.int x :: .int i :: .ref a :: st)) rfl (rest := st) rfl (by rw [C.2.1]; exact hdg) t9
  have h8 : (vp_cell (gA Z.2.1 0) (n, .inl f)).slots.size = n := by rw [vp_cell_i, arrV_size]
  rw [h8] at h9
  exact h9 st9
theorem jr_bastX (C : jC Z d cc own ret y) (pc' : Nat) (hp : pc + 1 = pc') (hdg : decode cc pc = .ok (.bastore, 1)) (hd : 170 ≤ d) (hst : (st.map fun v => v.category).sum ≤ 8) {a : Nat} {i x : Int32} {K : jS → Prop} {B : Nat → Prop} (h : jasx 1 S a i x K (∀ q, B q)) (kk : ∀ S1 : jS, K S1 → jJ Z S1 lv pc' st) (kx : ∀ q : Nat, B q → jT Z (jth S) lv pc st 2 q) : jJ Z S lv pc (.int x :: .int i :: .ref a :: st) := by
  obtain ⟨n, f, h1, hn9, hin, hout⟩ := h
  by_cases c : vp_in i n
  · exact jr_bast C pc' hp hdg ⟨n, f, h1, c, hin c⟩ kk
  intro H locs cells slots ls hW hz hL hls
  refine W.tight C.2.2.2.2.2.2.2.2.1 fun k n1 hk hn => ?_
  obtain ⟨b1, b2, b3⟩ := hout c
  have hja := j_rw hW h1 (show (1 : Nat) < 10 by decide)
  intro T hT X
  obtain ⟨t9, st9, q9⟩ := j_note C hd hst (e := 2) (names := ["java/lang/IndexOutOfBoundsException", "java/lang/RuntimeException", "java/lang/Exception"]) rfl (by decide +kernel) (by decide +kernel) (by decide +kernel) (by decide +kernel) (by decide) jvw2 jvo2 (index_text_modelled i n) (Nat.le_trans (index_text_bytes i (by omega)) (by decide)) hW hz hL hls hk hn ⟨b1, b2⟩ (fun q => kx q (b3 q)) T hT X
  refine ⟨t9, ?_, q9⟩
  have h9 := X.bastoreOut C.1 (by rw [hT]; exact hja.1) (j_arI C.2.2.2.2.2.2.2.1 (t := 1) rfl (by decide) n f) (j := i) (by show (i < 0 ∨ (arrV _ _ _).slots.size ≤ _); rw [arrV_size]; exact Classical.byContradiction c) (g := F0 (zm Z) pc ls (.int x :: .int i :: .ref a :: st)) rfl (rest := st) rfl (by rw [C.2.1]; exact hdg) t9
  have h8 : (vp_cell (gA Z.2.1 1) (n, .inl f)).slots.size = n := by rw [vp_cell_i, arrV_size]
  rw [h8] at h9
  exact h9 st9
theorem jr_sastX (C : jC Z d cc own ret y) (pc' : Nat) (hp : pc + 1 = pc') (hdg : decode cc pc = .ok (.sastore, 1)) (hd : 170 ≤ d) (hst : (st.map fun v => v.category).sum ≤ 8) {a : Nat} {i x : Int32} {K : jS → Prop} {B : Nat → Prop} (h : jasx 2 S a i x K (∀ q, B q)) (kk : ∀ S1 : jS, K S1 → jJ Z S1 lv pc' st) (kx : ∀ q : Nat, B q → jT Z (jth S) lv pc st 2 q) : jJ Z S lv pc (.int x :: .int i :: .ref a :: st) := by
  obtain ⟨n, f, h1, hn9, hin, hout⟩ := h
  by_cases c : vp_in i n
  · exact jr_sast C pc' hp hdg ⟨n, f, h1, c, hin c⟩ kk
  intro H locs cells slots ls hW hz hL hls
  refine W.tight C.2.2.2.2.2.2.2.2.1 fun k n1 hk hn => ?_
  obtain ⟨b1, b2, b3⟩ := hout c
  have hja := j_rw hW h1 (show (2 : Nat) < 10 by decide)
  intro T hT X
  obtain ⟨t9, st9, q9⟩ := j_note C hd hst (e := 2) (names := ["java/lang/IndexOutOfBoundsException", "java/lang/RuntimeException", "java/lang/Exception"]) rfl (by decide +kernel) (by decide +kernel) (by decide +kernel) (by decide +kernel) (by decide) jvw2 jvo2 (index_text_modelled i n) (Nat.le_trans (index_text_bytes i (by omega)) (by decide)) hW hz hL hls hk hn ⟨b1, b2⟩ (fun q => kx q (b3 q)) T hT X
  refine ⟨t9, ?_, q9⟩
  have h9 := X.sastoreOut C.1 (by rw [hT]; exact hja.1) (j_arI C.2.2.2.2.2.2.2.1 (t := 2) rfl (by decide) n f) (j := i) (by show (i < 0 ∨ (arrV _ _ _).slots.size ≤ _); rw [arrV_size]; exact Classical.byContradiction c) (g := F0 (zm Z) pc ls (.int x :: .int i :: .ref a :: st)) rfl (rest := st) rfl (by rw [C.2.1]; exact hdg) t9
  have h8 : (vp_cell (gA Z.2.1 2) (n, .inl f)).slots.size = n := by rw [vp_cell_i, arrV_size]
  rw [h8] at h9
  exact h9 st9
theorem jr_newaX (C : jC Z d cc own ret y) (pc' : Nat) (hp : pc + 2 = pc') {atype : ArrayType} {t : Nat} {ty : FieldType} (ht : jty[t]? = some ty) (h9 : t < 10) (hty : newarray.typeOf atype = ty) (hdef : defaultValue ty = .int 0) (hb8 : componentBytes ty ≤ 8) (harr : Cond.arrayClass ty ∈ lw_all) (hdg : decode cc pc = .ok (.newarray atype, 2)) (hd : 170 ≤ d) (hst : (st.map fun v => v.category).sum ≤ 8) {n : Int32} {K : jS → Nat → Prop} {B : Nat → Prop} (h : jnewax t S n K (∀ q, B q)) (kk : ∀ (S1 : jS) (a : Nat), K S1 a → jJ Z S1 lv pc' (.ref a :: st)) (kx : ∀ q : Nat, B q → jT Z (jth S) lv pc st 3 q) : jJ Z S lv pc (.int n :: st) := by
  by_cases c : n < 0
  · intro H locs cells slots ls hW hz hL hls
    refine W.tight C.2.2.2.2.2.2.2.2.1 fun k n1 hk hn => ?_
    obtain ⟨b1, b2, b3⟩ := h.2 c
    intro T hT X
    obtain ⟨t9, st9, q9⟩ := j_note C hd hst (e := 3) (names := ["java/lang/RuntimeException", "java/lang/Exception"]) rfl (by decide +kernel) (by decide +kernel) (by decide +kernel) (by decide +kernel) (by decide) jvw3 jvo3 (negative_text_modelled c) (Nat.le_trans (negative_text_bytes n) (by decide)) hW hz hL hls hk hn ⟨b1, b2⟩ (fun q => kx q (b3 q)) T hT X
    exact ⟨t9, X.newarrayNegative C.1 (g := F0 (zm Z) pc ls (.int n :: st)) rfl c (rest := st) rfl (by rw [C.2.1]; exact hdg) t9 st9, q9⟩
  · exact jr_newa C pc' hp ht h9 hty hdef hb8 harr hdg (h.1 c) kk
theorem j_nmA {G : jG} {U : State} (hK : jK G U) {t : Nat} (ht : t < 3) : U.vm.findClass (jan t) = some (gA G t) := by
  have h3 : t = 0 ∨ t = 1 ∨ t = 2 := by omega
  rcases h3 with e | e | e <;> subst e
  · exact va_nm_int (hK.2.2.1 0 .int rfl (by decide)).2
  · exact va_nm_byte (hK.2.2.1 1 .byte rfl (by decide)).2
  · have e2 : "[" ++ FieldType.short.toString = "[S" := by decide +kernel
    have := (hK.2.2.1 2 .short rfl (by decide)).2
    rw [show jan 2 = "[S" from rfl, ← e2]
    exact this
theorem jr_castA (C : jC Z d cc own ret y) (pc' : Nat) (hp : pc + 3 = pc') {t : Nat} {nm : String} (ht : (t < 3) = True) (ht3 : t < 3) (hnm : jan t = nm) {index : Nat} (hl : Cond.classLink own index nm ∈ lw_all) (hdg : decode cc pc = .ok (.checkcast index, 3)) {a : Nat} (h : jca t S a) (kk : jJ Z S lv pc' (.ref a :: st)) : jJ Z S lv pc (.ref a :: st) := by
  subst hp; subst hnm
  intro H locs cells slots ls hW hz hL hls
  obtain ⟨n, f, h1⟩ := h
  have hja := j_rw hW h1 (show t < 10 by omega)
  exact va_castE C.1 C.2.1 C.2.2.2.1 (C.2.2.2.2.1 _ hl) ⟨_, hja.1, rfl, j_nmA C.2.2.2.2.2.2.2.1 ht3⟩ hdg (kk H locs cells slots ls hW hz hL hls)
theorem j_ncA {G : jG} {U : State} (hK : jK G U) {t t2 : Nat} (ht : t < 3) (ht2 : t2 < 3) (hne : ¬ t2 = t) : va_Nc (jan t2) (jan t) U := by
  have hm : (jan t2, jan t) ∈ jnc := by
    have h3 : t = 0 ∨ t = 1 ∨ t = 2 := by omega
    have h4 : t2 = 0 ∨ t2 = 1 ∨ t2 = 2 := by omega
    rcases h3 with e | e | e <;> subst e <;> rcases h4 with e | e | e <;> subst e <;> first | exact absurd rfl hne | decide +kernel
  exact hK.2.2.2.2.1.1 _ hm
theorem jr_instA (C : jC Z d cc own ret y) (pc' : Nat) (hp : pc + 3 = pc') {t : Nat} {nm : String} (ht3 : t < 3) (hnm : jan t = nm) {index : Nat} (hl : Cond.classLink own index nm ∈ lw_all) (hdg : decode cc pc = .ok (.instanceof index, 3)) {a : Nat} {K : Int32 → Prop} (h : jia t S a K) (kk : ∀ v : Int32, K v → jJ Z S lv pc' (.int v :: st)) : jJ Z S lv pc (.ref a :: st) := by
  subst hp; subst hnm
  intro H locs cells slots ls hW hz hL hls
  obtain ⟨t2, n, f, h1, h2, h3, h4⟩ := h
  have hja := j_rw hW h1 (show t2 < 10 by omega)
  by_cases e : t2 = t
  · subst e
    exact va_instE C.1 C.2.1 C.2.2.2.1 (C.2.2.2.2.1 _ hl) ⟨_, hja.1, rfl, j_nmA C.2.2.2.2.2.2.2.1 ht3⟩ hdg (kk _ (h3 rfl) H locs cells slots ls hW hz hL hls)
  · exact va_instNo C.1 C.2.1 C.2.2.2.1 (C.2.2.2.2.1 _ hl) (j_ncA C.2.2.2.2.2.2.2.1 ht3 h2 e) ⟨_, hja.1, rfl, j_nmA C.2.2.2.2.2.2.2.1 h2⟩ hdg (kk _ (h4 e) H locs cells slots ls hW hz hL hls)
theorem j_kind {G : jG} {U : State} (hK : jK G U) {t : Nat} (ht : t < 3) {vm' : Vm} (hA : U.vm.Alike vm') {k : Class} (hk : vm'.classes[gA G t]? = some k) : ∃ (c : ClassId) (ty : FieldType), k.kind = .array c ty := by
  have h3 : t = 0 ∨ t = 1 ∨ t = 2 := by omega
  have key : ∀ ty : FieldType, jty[t]? = some ty → ∃ (c : ClassId) (ty : FieldType), k.kind = .array c ty := by
    intro ty hty
    obtain ⟨-, k0, hk0, c0, hc0⟩ := (hK.2.2.1 t ty hty (by omega)).1 0 (fun _ => .int 0)
    obtain ⟨k1, hk1, e1⟩ := hA.2.2 _ _ hk0
    have e2 : k1 = k := Option.some.inj (hk1.symm.trans hk)
    refine ⟨c0, ty, ?_⟩
    rw [← e2, e1]
    exact hc0
  rcases h3 with e | e | e <;> subst e
  · exact key .int rfl
  · exact key .byte rfl
  · exact key .short rfl
theorem jr_castX (C : jC Z d cc own ret y) (pc' : Nat) (hp : pc + 3 = pc') {t : Nat} {nm : String} (ht : (t < 3) = True) (ht3 : t < 3) (hnm : jan t = nm) {index : Nat} (hl : Cond.classLink own index nm ∈ lw_all) (hdg : decode cc pc = .ok (.checkcast index, 3)) (hd : 170 ≤ d) {a : Nat} (hst : ((Value.ref a :: st).map fun v => v.category).sum ≤ 8) {K : Prop} {B : Nat → Prop} (h : jcax t S a K (∀ q, B q)) (kk : K → jJ Z S lv pc' (.ref a :: st)) (kx : ∀ q : Nat, B q → jT Z (jth S) lv pc (.ref a :: st) 1 q) : jJ Z S lv pc (.ref a :: st) := by
  obtain ⟨t2, n, f, h1, h2, h3, h4⟩ := h
  by_cases e : t2 = t
  · subst e
    exact jr_castA C pc' hp ht ht3 hnm hl hdg ⟨n, f, h1⟩ (kk (h3 rfl))
  subst hnm
  intro H locs cells slots ls hW hz hL hls
  refine W.tight C.2.2.2.2.2.2.2.2.1 fun k n1 hk hn => ?_
  obtain ⟨b1, b2, b3⟩ := h4 e
  have hja := j_rw hW h1 (show t2 < 10 by omega)
  have n1' := j_nmA C.2.2.2.2.2.2.2.1 h2
  have n2' := j_nmA C.2.2.2.2.2.2.2.1 ht3
  obtain ⟨c0, t0, f1, f2, f3⟩ := j_ncA C.2.2.2.2.2.2.2.1 ht3 h2 e
  cases f1.symm.trans n1'
  cases f2.symm.trans n2'
  obtain ⟨ks, hks, -⟩ := Vm.findClass_spec n1'
  intro T hT X
  obtain ⟨vm', k1, k2, X', hA, hk1, hk2, step⟩ := j_castNo X C.1 C.2.2.2.1 (C.2.2.2.2.1 _ hl) (cell := vp_cell (gA Z.2.1 t2) (n, .inl f)) (by rw [hT]; exact hja.1) rfl hks n2' f3 (g := F0 (zm Z) pc ls (.ref a :: st)) rfl rfl (by rw [C.2.1]; exact hdg)
  obtain ⟨u1, u2, a1⟩ := j_kind C.2.2.2.2.2.2.2.1 h2 hA hk1
  obtain ⟨v1, v2, a2⟩ := j_kind C.2.2.2.2.2.2.2.1 ht3 hA hk2
  have hdw : ∀ t : Nat, t < 3 → ((withoutBrackets (jan t)).length == 1) = true ∧ dotted (jan t) = jan t := by decide +kernel
  have hmem := j_cct (vm := vm') (n := jan t2) (n2 := jan t) (by rw [hA.findClass]; exact n1') hk1 (by rw [hA.findClass]; exact n2') hk2 a1 a2 (hdw t2 h2).1 (hdw t ht3).1 (hdw t2 h2).2 (hdw t ht3).2
  obtain ⟨z1, z2⟩ := j_cctS t2 h2 t ht3 _ hmem
  obtain ⟨t9, st9, q9⟩ := j_note C hd hst (e := 1) (names := ["java/lang/RuntimeException", "java/lang/Exception"]) rfl (by decide +kernel) (by decide +kernel) (by decide +kernel) (by decide +kernel) (by decide) jvw1 jvo1 z2 z1 hW hz hL hls hk hn ⟨b1, b2⟩ (fun q => kx q (b3 q)) (T.setVm vm') hT X'
  exact ⟨t9, step t9 st9, q9⟩
end JV1
