/-! System.arraycopy, all roads -/
set_option maxHeartbeats 1000000 in
/-- a native's throw noted over its frame (the rows down to hskip: the starting text's vx_vmAt) -/
theorem j_nvmAt {p : Program} {l : Launch} {e : Env} {R : Room} {s : State} {m₀ : MethodId} {args : Array Value} {below : List Frame} {meth : Method} {c : Code} {W : State} {locs : List Loc} {cells slots : Nat}
    (X : Stand p l e R s m₀ args below meth c W locs cells slots) (hexec : p.tables.exec = Jvm.exec) (htr : e.platform.stackTraces = false) {cls : String} {names : List String} {text : String}
    (hcls : Bundle.fit cls = true) (hnames : ∀ n ∈ names, Bundle.fit n = true) (hsoe : (cls == "java/lang/StackOverflowError") = false) (hoom : (cls == "java/lang/OutOfMemoryError") = false)
    (h : ∀ a ∈ Bundle.messageArmAtoms cls names, a.before args s = true)
    (hlocs : ∀ x ∈ locs, ∀ cell, s.heap[x.base]? = some cell → cell.vm.isStatics = false)
    (htext : (text == notModelled) = false) (hlimit : ¬ (stringBytes (stringToUtf16 text)).size > e.platform.arrayLengthLimit) (hheap : ¬ (stringBytes (stringToUtf16 text)).size * componentBytes .byte > e.platform.maxHeapBytes)
    {g : JFrame} (hg : g.method = m₀) (hsize : g.locals.size = c.maxLocals) {nf : NFrame} (hnf : nf.words = 0)
    (hRframes : names.length + 5 < R.frames) (hRlocals : 2 * g.monitorRoom + (g.stack.map fun v => v.category).sum + 10240 ≤ R.locals) (hshort : 13 * names.length + 55 ≤ 10240)
    (hRcells : cells + 3 ≤ R.cells) (hRslots : slots + ((stringBytes (stringToUtf16 text)).size + 4 + 6) ≤ R.slots) :
    ∃ (S : State) (q : Addr) (ce : Cell), Steps p.tables e below (W.setFrames (.throwNew cls (some text) none :: .native nf :: .java g :: below)) (S.setFrames (.throwing q :: .native nf :: .java g :: below)) ∧
      Stand p l e R s m₀ args below meth c S locs (cells + 3) (slots + ((stringBytes (stringToUtf16 text)).size + 4 + 6)) ∧ S.heap[q]? = some ce ∧ s.vm.findClass cls = some ce.cls ∧ ce.vm = .none := by
  have howns : e.platform.frameOwnsMonitors = true := by rw [X.admits.platform]
  have hfin : e.platform.finalization = false := by rw [X.admits.platform]
  have hpl : e.platform.magicAccessors = ({} : Platform).magicAccessors := by rw [X.admits.platform]
  have a : ∀ x, x ∈ Bundle.messageArmAtoms cls names → x.holds args s none s [] = true := fun x hx => h x hx
  obtain ⟨T, Z0, L, -, Y⟩ := ThrowableC.of_atoms (args := args) howns hfin hpl (fun x hx => h x (by simp [Bundle.messageArmAtoms, hx]))
  obtain ⟨Z, M, LZ, LM, hnZ⟩ := Init0T.ofS_atoms (args := args) hpl L Y (fun x hx => h x (by simp [Bundle.messageArmAtoms, hx]))
  obtain ⟨P1, Ps, hlen, L1, hL, hP1m, hlink1, hlink⟩ := Bundle.chainS (args := args) hpl hnZ names cls hcls hnames (fun x hx => h x (by simp [Bundle.messageArmAtoms, hx]))
  obtain ⟨Zs, LZs, hn4, hfitv, hfitc⟩ := StringT.of_atoms (args := args) (fun x hx => h x (by simp [Bundle.messageArmAtoms, hx]))
  have hfound : s.vm.findClass cls = some P1.m.cls := findClass_of_methodNamed hP1m
  obtain ⟨c1, kX, hc1, hk, hord, -, -, hn6⟩ := Cond.instantiable_spec (a (.instantiable cls 6) (by simp [Bundle.messageArmAtoms]))
  cases Option.some.inj (hc1.symm.trans hfound)
  have hinit := Cond.initialized_spec hfound hk (a (.initialized cls) (by simp [Bundle.messageArmAtoms]))
  have hctor : kX.findMethod "<init>" "(Ljava/lang/String;)V" = some P1.m.idx := findMethod_of_methodNamed hP1m hk
  have hsel0 : selectMethod e.platform s.vm P1.m.cls T.fill0 = .method T.fill0 := by
    obtain ⟨c2, r2, m2, q1, q2, q3, q4, -⟩ := Cond.selects_spec (a (.selects cls Bundle.tFill0 Bundle.tFill0) (by simp [Bundle.messageArmAtoms]))
    cases Option.some.inj (q1.symm.trans hfound)
    cases Option.some.inj (q2.symm.trans (State.methodFound?_of_named Y.fill0 (by decide)))
    cases Option.some.inj (q3.symm.trans Y.fill0)
    rw [Launch.admits_selectMethod X.admits]; exact q4
  have hselF : selectMethod e.platform s.vm P1.m.cls T.fill = .method T.fill := by
    obtain ⟨c2, r2, m2, q1, q2, q3, q4, -⟩ := Cond.selects_spec (a (.selects cls Bundle.tFill Bundle.tFill) (by simp [Bundle.messageArmAtoms]))
    cases Option.some.inj (q1.symm.trans hfound)
    cases Option.some.inj (q2.symm.trans (State.methodFound?_of_named Y.fill (by decide)))
    cases Option.some.inj (q3.symm.trans Y.fill)
    rw [Launch.admits_selectMethod X.admits]; exact q4
  obtain ⟨cellS0, hcS0, hiss⟩ := Y.statics
  obtain ⟨u0, hu0⟩ := Cond.staticRefV Y.unassigned L.unassignedStatic L.statics hcS0 hiss (a (.isRef (.static Bundle.tN "UNASSIGNED_STACK" Bundle.steD)) (by simp [Bundle.messageArmAtoms]))
  obtain ⟨sen, hsen⟩ := Cond.staticRefV Y.sentinel L.sentinelStatic L.statics hcS0 hiss (a (.isRef (.static Bundle.tN "SUPPRESSED_SENTINEL" Bundle.listD)) (by simp [Bundle.messageArmAtoms]))
  obtain ⟨ci198, i198, fB, hk198, hg198, ha198, hsB, -, hnB, htB, hffB⟩ := Cond.ownField (t := .object "java/lang/Object") Y.found L.cls (by decide +kernel) (a (.fieldLink Bundle.tN 198 Bundle.tN "backtrace" "Ljava/lang/Object;") (by simp [Bundle.messageArmAtoms])) (a (.lays Bundle.tN Bundle.tN "backtrace" "Ljava/lang/Object;") (by simp [Bundle.messageArmAtoms])) e.platform hpl
  obtain ⟨cellS, hcS', heS, -, hkeep⟩ := X.same.2.2.2.2.2 T.aS cellS0 hcS0
  have hcellS : W.heap[T.aS]? = some cellS := hcS'
  have hout' : ∀ i, (⟨T.aS, i⟩ : Loc) ∉ locs := fun i hmem => by
    have := hlocs _ hmem cellS0 hcS0
    rw [hiss] at this; cases this
  have hknownS : cellS.vm ≠ .unknown := by
    rw [heS]; intro hu
    rw [show cellS0.vm = .unknown from hu] at hiss
    cases hiss
  have hvU : cellS.slots[T.fUnassigned.slot]? = some u0.v := by rw [hkeep _ (hout' _)]; exact hu0
  have hvSen : cellS.slots[T.fSentinel.slot]? = some sen.v := by rw [hkeep _ (hout' _)]; exact hsen
  obtain ⟨iM, hffM⟩ := Y.msg
  obtain ⟨tyC, dC, hdC, hdnC⟩ := Cond.laysAt hfound hk Y.cause (a (.lays cls Bundle.tN "cause" "Ljava/lang/Throwable;") (by simp [Bundle.messageArmAtoms]))
  obtain ⟨tyS, dS, hdS, hdnS⟩ := Cond.laysAt hfound hk Y.stack (a (.lays cls Bundle.tN "stackTrace" Bundle.steD) (by simp [Bundle.messageArmAtoms]))
  obtain ⟨tyP, dP, hdP, hdnP⟩ := Cond.laysAt hfound hk Y.supp (a (.lays cls Bundle.tN "suppressedExceptions" Bundle.listD) (by simp [Bundle.messageArmAtoms]))
  obtain ⟨tyM, dM, hdM, hdnM⟩ := Cond.laysAt hfound hk hffM (a (.lays cls Bundle.tN "detailMessage" "Ljava/lang/String;") (by simp [Bundle.messageArmAtoms]))
  obtain ⟨tyB, dB, hdB, hdnB⟩ := Cond.laysAt hfound hk hffB (a (.lays cls Bundle.tN "backtrace" "Ljava/lang/Object;") (by simp [Bundle.messageArmAtoms]))
  have bC := Cond.laysApart hdB hdC hdnB hdnC (by rw [hnB, Y.causeName]; decide)
  have bS := Cond.laysApart hdB hdS hdnB hdnS (by rw [hnB, Y.stackName]; decide)
  have bP := Cond.laysApart hdB hdP hdnB hdnP (by rw [hnB, Y.suppName]; decide)
  have hbk : ((preparedCellV T.toThrowableT (freshCell P1.m.cls kX) (W.heap.size + 2) u0 sen).withEntry W.cur).slots[fB.slot]? = some .null := by
    have := fresh_default (c := P1.m.cls) tyB
    rw [htB] at this
    simpa [preparedCellV, Cell.setSlot, Cell.withEntry, Array.getElem?_setIfInBounds, bC, bS, bP, bC.symm, bS.symm, bP.symm, defaultValue] using this
  have tkC := Takes.of_laid (v := .ref (W.heap.size + 2)) hk hord tyC (by rw [Y.causeType]; rfl)
  have tkS := Takes.of_laid (v := u0.v) hk hord tyS (by rw [Y.stackType]; exact fits_refV_array _ u0)
  have tkP := Takes.of_laid (v := sen.v) hk hord tyP (by rw [Y.suppType]; exact fits_refV_object _ sen)
  have tkM := Takes.of_laid (v := .ref (W.heap.size + 1)) hk hord tyM (by rw [Y.msgType]; rfl)
  have hskip : SkipFacts T e.platform s (fun u => u) u0 ((preparedCellV T.toThrowableT (freshCell P1.m.cls kX) (W.heap.size + 2) u0 sen).withEntry W.cur) := ⟨{ ci198 := ci198, i198 := i198, fBack := fB }, ⟨hk198, hg198, ha198, hsB⟩, hbk, fun _ _ => rfl⟩
  obtain ⟨vm', X5, h1, hkept⟩ := X.nativeThrowsMessageColdBareV hexec hsize hnf T L Z LZ M LM Zs LZs P1 L1 Ps hL hlink1 hlink hsoe hoom hfound hk hinit hord hctor htext hlimit hheap
    (hfitv _) (hfitc _) hsel0 hselF hcellS hknownS hvU hvSen tkC tkS tkP tkM Y.objLocals hskip (fun _ _ hA hW _ hroom _ hrest => L.nativeOff p htr hA hW hroom hrest)
    (by omega) hRlocals (by omega) hRcells (by rw [hn4, hn6]; omega)
  have ha : (W.heap.size + 2) < ((withThrown W Zs text P1.m.cls kX).setVm vm').heap.size := by
    show W.heap.size + 2 < (withThrown W Zs text P1.m.cls kX).heap.size
    rw [(withThrown_facts e.platform W Zs text P1.m.cls kX).2.2.1]; omega
  have b1 : (bytesOf Zs.cB (stringToUtf16 text)).slots.size = (stringBytes (stringToUtf16 text)).size := by
    rw [(Cell.writeAll_facts _ _).2.2]; simp [bytes0]
  have b2 : (stringAt Zs.cS Zs.kS Zs.fv Zs.fc (stringToUtf16 text) W.heap.size).slots.size = 4 := by simp [string0, Cell.setSlot, hn4]
  have b3 : (freshCell P1.m.cls kX).slots.size = 6 := by simp [hn6]
  rw [b1, b2, b3] at X5
  have e9 : slots + (stringBytes (stringToUtf16 text)).size + 4 + 6 = slots + ((stringBytes (stringToUtf16 text)).size + 4 + 6) := by omega
  rw [e9] at X5
  refine ⟨_, _, _, h1, X5.forget (fun y hy => ?_), heapAt_setCell_self _ ha, hfound, rfl⟩
  simp only [List.mem_cons, List.not_mem_nil, or_false] at hy
  have hge : s.heap.size ≤ W.heap.size := X.same.2.1
  rcases hy with rfl | rfl | rfl | rfl | rfl <;> exact Nat.le_trans hge (Nat.le_add_right _ 2)
theorem j_acFail {p : Program} {l : Launch} {e : Env} {R : Room} {s : State} {m : MethodId} {args : Array Value} {below : List Frame} {meth : Method} {c : Code} {T : State} {locs : List Loc} {cells slots : Nat}
    (X : Stand p l e R s m args below meth c T locs cells slots) (hexec : p.tables.exec = Jvm.exec) (htr : e.platform.stackTraces = false) {own : String} {index : Nat} (hown : s.vm.findClass own = some m.cls) (hlink : (Cond.methodLink own index arraycopyName).before args s = true) (hnat : (Cond.native arraycopyName).before args s = true) (hstat : (Cond.static arraycopyName).before args s = true) (hinit : (Cond.initialized "java/lang/System").before args s = true)
    {src dst : Addr} {sp dp n : Int32} {cs cd : Cell} {ks kd : Class} {sc dc : ClassId} {ty : FieldType} (hs : T.heap[src]? = some cs) (hd : T.heap[dst]? = some cd) (hso : cs.vm = .none) (hdo : cd.vm = .none) (hks : s.vm.classes[cs.cls]? = some ks) (hkd : s.vm.classes[cd.cls]? = some kd) (hsk : ks.kind = .array sc ty) (hdk : kd.kind = .array dc ty) (hprim : refKind ty = false) {what : String} (hf : copyFault ty ty cs.slots.size cd.slots.size sp dp n = some what)
    (h : ∀ a ∈ Bundle.messageArmAtoms "java/lang/ArrayIndexOutOfBoundsException" ["java/lang/IndexOutOfBoundsException", "java/lang/RuntimeException", "java/lang/Exception"], a.before args s = true)
    (hlocs : ∀ x ∈ locs, ∀ cell, s.heap[x.base]? = some cell → cell.vm.isStatics = false) (htext : (("arraycopy: " ++ what) == notModelled) = false) (hnb : (stringBytes (stringToUtf16 ("arraycopy: " ++ what))).size ≤ 390)
    {g : JFrame} (hg : g.method = m) (hsize : g.locals.size = c.maxLocals) {rest : List Value} (hstack : g.stack = .int n :: .int dp :: .ref dst :: .int sp :: .ref src :: rest) (hdg : decode c.code g.pc = .ok (.invokestatic index, 3))
    (hRframes : 8 < R.frames) (hRlocals : 2 * g.monitorRoom + (rest.map fun v => v.category).sum + 10240 ≤ R.locals) (hRcells : cells + 3 ≤ R.cells) (hRslots : slots + 400 ≤ R.slots) :
    ∃ (S : State) (q : Addr) (ce : Cell), Steps p.tables e below (T.setTop g) ((S.setTop { g with stack := rest }).pushFrame (.throwing q)) ∧
      Stand p l e R s m args below meth c S locs (cells + 3) (slots + ((stringBytes (stringToUtf16 ("arraycopy: " ++ what))).size + 4 + 6)) ∧ S.heap[q]? = some ce ∧ s.vm.findClass "java/lang/ArrayIndexOutOfBoundsException" = some ce.cls ∧ ce.vm = .none := by
  obtain ⟨r, kS, methS, hnS, hmS, hkS, N⟩ := NativeOf.of_static hnat hstat (ps := [.object "java/lang/Object", .int, .object "java/lang/Object", .int, .int]) (ret := none) (by decide +kernel)
  have hinitS : kS.init = .initialized := Cond.initialized_spec (findClass_of_methodNamed hnS) hkS hinit
  obtain ⟨vm', X', step⟩ := X.invokestatic hexec hown hlink hnS hmS N.static hkS hinitS (by decide) hg (argsL := [.ref src, .int sp, .ref dst, .int dp, .int n]) (rest := rest) (by rw [N.sig]; rfl) hstack hdg
  have hA' : s.vm.Alike vm' := X'.warmed.alike
  obtain ⟨ks', hks', hes⟩ := hA'.2.2 _ _ hks
  obtain ⟨kd', hkd', hed⟩ := hA'.2.2 _ _ hkd
  have hB : BackT l R p e below s args arraycopyName 3 ((rest.map fun v => v.category).sum + 2 * g.monitorRoom) (fun A a => A = ⟨T.setVm vm', locs, cells, slots⟩ ∧ a = #[.ref src, .int sp, .ref dst, .int dp, .int n])
      (fun _ _ q B => ∃ ce : Cell, B.locs = locs ∧ B.cells = cells + 3 ∧ B.slots = slots + ((stringBytes (stringToUtf16 ("arraycopy: " ++ what))).size + 4 + 6) ∧ B.U.heap[q]? = some ce ∧ s.vm.findClass "java/lang/ArrayIndexOutOfBoundsException" = some ce.cls ∧ ce.vm = .none) := by
    refine BackT.of_native (row := arraycopyRow) (words := 5) (st := true) (ps := [.object "java/lang/Object", .int, .object "java/lang/Object", .int, .int]) (arraycopy_row p) (nativeStatic (ret := none) hnat hstat (by decide +kernel)) (by omega) ?_ ?_
    · have h3 : nativeFrameWords arraycopyName.cls arraycopyName.name 5 + 11 ≤ 10240 := by decide +kernel
      omega
    intro m9 meth9 c9 A a x9 g9 mk X9 hg9 hs9 hw9 hn9 hst hps hAsk
    obtain ⟨rfl, rfl⟩ := hAsk
    dsimp only [Pt.U, Pt.locs, Pt.cells, Pt.slots] at X9 hn9 ⊢
    obtain ⟨S, q, ce, st9, Z9, hce, hcl, hv⟩ := j_nvmAt X9 hexec htr (cls := "java/lang/ArrayIndexOutOfBoundsException") (names := ["java/lang/IndexOutOfBoundsException", "java/lang/RuntimeException", "java/lang/Exception"]) (text := "arraycopy: " ++ what) (by decide +kernel) (by decide +kernel) (by decide +kernel) (by decide +kernel) h hlocs htext
      (by rw [Launch.admits_arrayLengthLimit X9.admits]; omega) (by rw [Launch.admits_maxHeapBytes X9.admits]; simp only [componentBytes]; omega) hg9 hs9 (nf := { method := mk, args := #[.ref src, .int sp, .ref dst, .int dp, .int n], locked := none }) rfl (by show 3 + 5 < _; omega) (by omega) (by decide) hRcells (by omega)
    refine ⟨rfl, by simp [seenByNative, hst, hps, narrow], "java/lang/ArrayIndexOutOfBoundsException", some ("arraycopy: " ++ what), id, fun _ => rfl, rfl, fun fs E hE => ?_, q, ⟨S, locs, cells + 3, slots + ((stringBytes (stringToUtf16 ("arraycopy: " ++ what))).size + 4 + 6)⟩, Z9, ⟨ce, rfl, rfl, rfl, hce, hcl, hv⟩, st9⟩
    rw [arraycopyRow_sem]
    exact Jvm.W.arraycopy_bounds (s := (T.setVm vm').setFrames fs) (ks := ks') (kd := kd') (sType := ty) (dType := ty) (sComp := sc) (dComp := dc) hs hd (fun k hk => by rw [hso] at hk; cases hk) (fun k hk => by rw [hdo] at hk; cases hk) hks' hkd' (by rw [hes]; exact hsk) (by rw [hed]; exact hdk) (by simp [hprim]) hf (hE _)
  obtain ⟨q, ⟨U, l2, c2, s2⟩, XB, ⟨ce, e1, e2, e3, hce, hcl, hv⟩, hsteps⟩ := hB m meth c ⟨T.setVm vm', locs, cells, slots⟩ { g with stack := rest } (.invokestatic index) r _ X' hg hsize hdg (by show 2 * g.monitorRoom + (rest.map fun v => v.category).sum ≤ (rest.map fun v => v.category).sum + 2 * g.monitorRoom; omega) (X'.named hnS) ⟨rfl, rfl⟩
  dsimp only [Pt.U, Pt.locs, Pt.cells, Pt.slots] at XB e1 e2 e3 hce hsteps
  subst e1; subst e2; subst e3
  exact ⟨U, q, ce, step _ fun acts => by rw [doInvoke_state]; exact hsteps, XB, hce, hcl, hv⟩
/-! the texts -/
theorem j_len (s : String) : (stringBytes (stringToUtf16 s)).size ≤ 4 * s.toList.length := by
  have b1 := stringBytes_size_le (stringToUtf16 s)
  have b2 := utf16_size_le s
  omega
theorem j_nmod (what : String) : (("arraycopy: " ++ what) == notModelled) = false := by
  rw [beq_eq_false_iff_ne]
  intro h
  have h2 := congrArg String.toList h
  rw [String.toList_append] at h2
  have h4 : notModelled.toList = '\u0000' :: " a message that is not modelled".toList := by decide
  have h5 : "arraycopy: ".toList = 'a' :: "rraycopy: ".toList := by decide
  rw [h4, h5] at h2
  simp at h2
theorem j_t1 (a b k : String) (m : Nat) (hm : m < 10 ^ 10 := by omega) : ((toString a ++ toString b ++ toString " out of bounds for " ++ toString (toString k ++ toString "[" ++ toString m ++ toString "]")) : String).toList.length ≤ a.toList.length + b.toList.length + 31 + k.toList.length := by
  have a2 : " out of bounds for ".toList.length = 19 := by decide
  have a3 : "[".toList.length = 1 := by decide
  have a4 : "]".toList.length = 1 := by decide
  have p4 := nat_print (n := m) hm
  show (a ++ b ++ " out of bounds for " ++ (k ++ "[" ++ toString m ++ "]")).toList.length ≤ _
  simp only [String.toList_append, List.length_append]
  omega
theorem j_int_print {z : Int} (h0 : 0 ≤ z) (h : z < 10 ^ 10) : (toString z).toList.length ≤ 10 := by
  obtain ⟨m, rfl⟩ := Int.eq_ofNat_of_zero_le h0
  exact nat_print (n := m) (by omega)
theorem j_cf {ty : FieldType} (hty : ty = .int ∨ ty = .byte ∨ ty = .short) {m1 m2 : Nat} (h1 : m1 ≤ 65535) (h2 : m2 ≤ 65535) {sp dp n : Int32} {what : String} (h : copyFault ty ty m1 m2 sp dp n = some what) : (stringBytes (stringToUtf16 ("arraycopy: " ++ what))).size ≤ 390 := by
  have hl := j_len ("arraycopy: " ++ what)
  rw [String.toList_append, List.length_append] at hl
  have a0 : "arraycopy: ".toList.length = 11 := by decide
  suffices hw : what.toList.length ≤ 80 by omega
  have kn : (Native.java_lang_System.arraycopy.kindName ty).toList.length ≤ 5 := by rcases hty with e | e | e <;> subst e <;> decide
  have p1 := int32_print sp
  have p2 := int32_print dp
  have p3 := int32_print n
  have p4 := nat_print (n := m1) (by omega)
  have p5 := nat_print (n := m2) (by omega)
  have q1 := Int32.toInt_lt sp
  have q2 := Int32.toInt_lt dp
  have q3 := Int32.toInt_lt n
  unfold copyFault at h
  by_cases c1 : sp < 0
  · rw [if_pos c1] at h
    cases h
    have h9 := j_t1 "source index " (toString sp) (Native.java_lang_System.arraycopy.kindName ty) m1
    have a1 : "source index ".toList.length = 13 := by decide
    exact Nat.le_trans h9 (by omega)
  rw [if_neg c1] at h
  by_cases c2 : dp < 0
  · rw [if_pos c2] at h
    cases h
    have h9 := j_t1 "destination index " (toString dp) (Native.java_lang_System.arraycopy.kindName ty) m2
    have a1 : "destination index ".toList.length = 18 := by decide
    exact Nat.le_trans h9 (by omega)
  rw [if_neg c2] at h
  by_cases c3 : n < 0
  · rw [if_pos c3] at h
    cases h
    have a1 : "length ".toList.length = 7 := by decide
    have a2 : " is negative".toList.length = 12 := by decide
    have h9 : ("length " ++ toString n ++ " is negative").toList.length ≤ 80 := by
      simp only [String.toList_append, List.length_append]
      omega
    exact h9
  rw [if_neg c3] at h
  have z1 := j_nn sp c1
  have z2 := j_nn dp c2
  have z3 := j_nn n c3
  by_cases c4 : sp.toInt + n.toInt > m1
  · rw [if_pos c4] at h
    cases h
    have h9 := j_t1 "last source index " (toString (sp.toInt + n.toInt)) (Native.java_lang_System.arraycopy.kindName ty) m1
    have a1 : "last source index ".toList.length = 18 := by decide
    have a2 := j_int_print (z := sp.toInt + n.toInt) (by omega) (by omega)
    exact Nat.le_trans h9 (by omega)
  rw [if_neg c4] at h
  by_cases c5 : dp.toInt + n.toInt > m2
  · rw [if_pos c5] at h
    cases h
    have h9 := j_t1 "last destination index " (toString (dp.toInt + n.toInt)) (Native.java_lang_System.arraycopy.kindName ty) m2
    have a1 : "last destination index ".toList.length = 23 := by decide
    have a2 := j_int_print (z := dp.toInt + n.toInt) (by omega) (by omega)
    exact Nat.le_trans h9 (by omega)
  rw [if_neg c5] at h
  cases h
theorem j_cfn {ty : FieldType} {m1 m2 : Nat} {sp dp n : Int32} (h : ¬ (¬ sp < 0 ∧ ¬ dp < 0 ∧ ¬ n < 0 ∧ sp.toNatClampNeg + n.toNatClampNeg ≤ m1 ∧ dp.toNatClampNeg + n.toNatClampNeg ≤ m2)) : ∃ what : String, copyFault ty ty m1 m2 sp dp n = some what := by
  unfold copyFault
  by_cases c1 : sp < 0
  · rw [if_pos c1]; exact ⟨_, rfl⟩
  rw [if_neg c1]
  by_cases c2 : dp < 0
  · rw [if_pos c2]; exact ⟨_, rfl⟩
  rw [if_neg c2]
  by_cases c3 : n < 0
  · rw [if_pos c3]; exact ⟨_, rfl⟩
  rw [if_neg c3]
  have z1 := j_nn sp c1
  have z2 := j_nn dp c2
  have z3 := j_nn n c3
  by_cases c4 : sp.toInt + n.toInt > m1
  · rw [if_pos c4]; exact ⟨_, rfl⟩
  rw [if_neg c4]
  by_cases c5 : dp.toInt + n.toInt > m2
  · rw [if_pos c5]; exact ⟨_, rfl⟩
  exact absurd ⟨c1, c2, c3, by omega, by omega⟩ h
def jcpx (S : jS) (a : Nat) (i : Int32) (b : Nat) (j n : Int32) (K : jS → Prop) (B : Prop) : Prop := ∃ (t m1 m2 : Nat) (f g : Nat → Int32), S.1 a = some (t, .inl (m1, f)) ∧ S.1 b = some (t, .inl (m2, g)) ∧ t < 3 ∧ m1 ≤ 65535 ∧ m2 ≤ 65535 ∧
  ((¬ i < 0 ∧ ¬ j < 0 ∧ ¬ n < 0 ∧ i.toNatClampNeg + n.toNatClampNeg ≤ m1 ∧ j.toNatClampNeg + n.toNatClampNeg ≤ m2) → (∀ k : Nat, k < n.toNatClampNeg → ∀ ty : FieldType, jty[t]? = some ty → fits ty (.int (f (i.toNatClampNeg + k))) = true) ∧ K (jset S b (t, .inl (m2, va_cpy f g i.toNatClampNeg j.toNatClampNeg n.toNatClampNeg)))) ∧
  (¬ (¬ i < 0 ∧ ¬ j < 0 ∧ ¬ n < 0 ∧ i.toNatClampNeg + n.toNatClampNeg ≤ m1 ∧ j.toNatClampNeg + n.toNatClampNeg ≤ m2) → jbad S B)
section JV3
variable {Z : jZ} {d : Nat} {cc : ByteArray} {own : String} {ret : Option FieldType} {y : MethodName} {pc : Nat} {S : jS} {lv : List (Nat × Value)} {st : List Value}
/-- a world behind such a throw -/
theorem j_thr {X : jX} (C : jC (X, Z.2) d cc own ret y) {H H1 : Heap} {locs : List Loc} {k n sl : Nat} {T : State} (hW : jW Z.2.1 S H) (hk : k + X.2.2.2.2.1.heap.size = H.size) (hn : n + jsl X.2.2.2.2.1.heap (gz Z.2.1) = jsl H (gz Z.2.1)) (hr : 3 ≤ S.2.1 ∧ 400 ≤ S.2.2.1) (hsl : sl ≤ 400) (h1 : H.size ≤ H1.size) (h2 : ∀ q : Nat, q < H.size → H1[q]? = H[q]?) (hT : T.heap = H1)
    (X9 : Stand X.1 X.2.1 X.2.2.1 X.2.2.2.1 X.2.2.2.2.1 X.2.2.2.2.2.1 X.2.2.2.2.2.2.1 X.2.2.2.2.2.2.2.1 X.2.2.2.2.2.2.2.2.1 X.2.2.2.2.2.2.2.2.2 T locs (k + 3) (n + sl)) : jW Z.2.1 (jth S) H1 := by
  have hz0 := C.2.2.2.2.2.2.2.2.1
  dsimp only [zs] at hz0
  have g4 := hW.2.2.2.1
  have g5 := hW.2.2.2.2.1
  have w1 := hW.2.1
  obtain ⟨x1, x2, x3, x4, x5, x6⟩ := X9.same
  have hH : (T.setVm X.2.2.2.2.1.vm).heap = H1 := hT
  rw [hH] at x2 x3 x4 x5 x6
  have hsz : ∀ a : Nat, a < X.2.2.2.2.1.heap.size → (H1[a]?).map (fun c => c.slots.size) = (X.2.2.2.2.1.heap[a]?).map (fun c => c.slots.size) := by
    intro a ha
    obtain ⟨c', q1, -, q3, -⟩ := x6 a _ (Array.getElem?_eq_getElem ha)
    rw [q1, Array.getElem?_eq_getElem ha]
    simp [q3]
  have hn2 := jsl_split hz0 x2 hsz
  have x5' : jsl H1 X.2.2.2.2.1.heap.size ≤ n + sl := x5
  have w2 : gz Z.2.1 ≤ H1.size := Nat.le_trans w1 h1
  have w3 : ∀ q : Nat, q < gz Z.2.1 → H1[q]? = (gH Z.2.1)[q]? := fun q hq => (h2 q (Nat.lt_of_lt_of_le hq w1)).trans (hW.2.2.1 q hq)
  have w4 : (jth S).2.2.2 = gV Z.2.1 := by unfold jth; exact hW.2.2.2.2.2
  refine ⟨fun a f hf => ?_, w2, w3, ?_, ?_, w4⟩
  · have hf : S.1 a = some f := by unfold jth at hf; exact hf
    rcases hW.1 a f hf with ⟨q0, q1, q2⟩ | q
    · exact Or.inl ⟨q0, q1.kept (h2 a q1.lt), q2⟩
    · exact Or.inr q
  · show H1.size + (S.2.1 - 3) ≤ _
    omega
  · show jsl H1 _ + (S.2.2.1 - 400) ≤ _
    omega

theorem jr_copyX (C : jC Z d cc own ret y) (pc' : Nat) (hp : pc + 3 = pc') {index : Nat} (q1 : Cond.methodLink own index arraycopyName ∈ lw_all) (hdg : decode cc pc = .ok (.invokestatic index, 3)) (hd : 170 ≤ d) (hst : (st.map fun v => v.category).sum ≤ 8) {a b : Nat} {sp dp n : Int32} {K : jS → Prop} {B : Nat → Prop} (h : jcpx S a sp b dp n K (∀ q, B q)) (kk : ∀ S1 : jS, K S1 → jJ Z S1 lv pc' st) (kx : ∀ q : Nat, B q → jT Z (jth S) lv pc st 2 q) : jJ Z S lv pc (.int n :: .int dp :: .ref b :: .int sp :: .ref a :: st) := by
  subst hp
  intro H locs cells slots ls hW hz hL hls
  obtain ⟨t, m1, m2, f, g, g1, g2, ht3, hm1, hm2, hok, hbad⟩ := h
  have hja := j_rw hW g1 (show t < 10 by omega)
  have hjb := j_rw hW g2 (show t < 10 by omega)
  have hc0 : H[a]? = some (vp_cell (gA Z.2.1 t) (m1, .inl f)) := hja.1
  have hc1 : H[b]? = some (vp_cell (gA Z.2.1 t) (m2, .inl g)) := hjb.1
  have hts := C.2.2.2.2.1
  obtain ⟨ty, hty, hty3⟩ : ∃ ty : FieldType, jty[t]? = some ty ∧ (ty = .int ∨ ty = .byte ∨ ty = .short) := by
    have h3 : t = 0 ∨ t = 1 ∨ t = 2 := by omega
    rcases h3 with e | e | e <;> subst e
    · exact ⟨_, rfl, Or.inl rfl⟩
    · exact ⟨_, rfl, Or.inr (Or.inl rfl)⟩
    · exact ⟨_, rfl, Or.inr (Or.inr rfl)⟩
  have hprim : refKind ty = false := by rcases hty3 with e | e | e <;> subst e <;> rfl
  have hTA := C.2.2.2.2.2.2.2.1.2.2.1 t _ hty (by omega)
  by_cases c : (¬ sp < 0 ∧ ¬ dp < 0 ∧ ¬ n < 0 ∧ sp.toNatClampNeg + n.toNatClampNeg ≤ m1 ∧ dp.toNatClampNeg + n.toNatClampNeg ≤ m2)
  · obtain ⟨hfit, hk⟩ := hok c
    obtain ⟨h1, h2, h3, h4, h5⟩ := c
    obtain ⟨-, k0, hk0, cm0, hkk0⟩ := hTA.1 m1 (fun j => .int (f j))
    obtain ⟨-, k1, hk1, cm1, hkk1⟩ := hTA.1 m2 (fun j => .int (g j))
    have hroom := j_acroom C (by omega) hst
    intro T hT X
    obtain ⟨vm', X', step⟩ := X.arraycopy C.1 C.2.2.2.1 (hts _ q1) (hts _ q652) (hts _ q651) (hts _ q115) (src := a) (dst := b) (cs := vp_cell (gA Z.2.1 t) (m1, .inl f)) (cd := vp_cell (gA Z.2.1 t) (m2, .inl g)) (srcPos := sp) (destPos := dp) (n := n) (by rw [hT]; exact hc0) (by rw [hT]; exact hc1)
      (fun _ h => by cases h) (fun _ h => by cases h) (fun h => by cases h) (fun h => by cases h) hk0 hk1 hkk0 hkk1 (by simp [hprim]) h1 h2 h3
      (by rw [j_nn sp h1, j_nn n h3]; show ¬ _ > ((arrV _ m1 (fun j => .int (f j))).slots.size : Int); rw [arrV_size]; omega)
      (by rw [j_nn dp h2, j_nn n h3]; show ¬ _ > ((arrV _ m2 (fun j => .int (g j))).slots.size : Int); rw [arrV_size]; omega)
      (fun vm₁ _ i hi => by
        have e : (vp_cell (gA Z.2.1 t) (m1, .inl f)).slots.getD (sp.toNatClampNeg + i) .null = .int (f (sp.toNatClampNeg + i)) := by
          show (arrV _ m1 (fun j => .int (f j))).slots.getD _ _ = _
          rw [Array.getD_eq_getD_getElem?, arrV_read _ _ (by omega)]
          rfl
        refine ⟨?_, ?_⟩
        · rw [e]
          exact hfit i hi ty hty
        · rw [e]
          exact trivial)
      (g := F0 (zm Z) pc ls (.int n :: .int dp :: .ref b :: .int sp :: .ref a :: st)) rfl (by rw [C.2.2.1]; exact hls.1) (rest := st) rfl (by rw [C.2.1]; exact hdg) hroom.1 (by show 2 * 0 + _ + _ ≤ _; have := hroom.2; omega)
    have e1 : copied (vp_cell (gA Z.2.1 t) (m1, .inl f)) (vp_cell (gA Z.2.1 t) (m2, .inl g)) sp dp n = vp_cell (gA Z.2.1 t) (m2, .inl (va_cpy f g sp.toNatClampNeg dp.toNatClampNeg n.toNatClampNeg)) := va_copied (fun z => .int z) _ _ f g h4
    rw [e1] at X' step
    have hl : b < H.size := (Array.getElem?_eq_some_iff.mp hc1).1
    have oq : ∀ q : Nat, q ≠ b → (H.setIfInBounds b (vp_cell (gA Z.2.1 t) (m2, .inl (va_cpy f g sp.toNatClampNeg dp.toNatClampNeg n.toNatClampNeg))))[q]? = H[q]? := fun q hq => by simp [Array.getElem?_setIfInBounds, Ne.symm hq]
    have eq : (H.setIfInBounds b (vp_cell (gA Z.2.1 t) (m2, .inl (va_cpy f g sp.toNatClampNeg dp.toNatClampNeg n.toNatClampNeg))))[b]? = some (vp_cell (gA Z.2.1 t) (m2, .inl (va_cpy f g sp.toNatClampNeg dp.toNatClampNeg n.toNatClampNeg))) := by simp [Array.getElem?_setIfInBounds, hl]
    have hW1 : jW Z.2.1 (jset S b (t, .inl (m2, va_cpy f g sp.toNatClampNeg dp.toNatClampNeg n.toNatClampNeg))) (H.setIfInBounds b (vp_cell (gA Z.2.1 t) (m2, .inl (va_cpy f g sp.toNatClampNeg dp.toNatClampNeg n.toNatClampNeg)))) :=
      jW.set hW g2 (show jAt _ _ (_, .inl _) _ from eq) (show t < 10 by omega) (by simp) oq hc1 eq (by rw [vp_cell_i, vp_cell_i, arrV_size, arrV_size]) (show t < 10 by omega)
    obtain ⟨t9, a1, b1⟩ := kk _ hk (H.setIfInBounds b (vp_cell (gA Z.2.1 t) (m2, .inl (va_cpy f g sp.toNatClampNeg dp.toNatClampNeg n.toNatClampNeg)))) (locs ++ List.map (fun q => ({ base := b, slot := dp.toNatClampNeg + q.snd } : Loc)) ((vp_cell (gA Z.2.1 t) (m1, .inl f)).stretch sp.toNatClampNeg n.toNatClampNeg).zipIdx) cells slots ls hW1 (by simp; exact hz) (fun q hq => by
        rcases List.mem_append.mp hq with h | h
        · exact hL q h
        · obtain ⟨z, -, hz⟩ := List.mem_map.mp h
          rw [← hz]
          exact hjb.2) hls ((T.setVm vm').setCell b (vp_cell (gA Z.2.1 t) (m2, .inl (va_cpy f g sp.toNatClampNeg dp.toNatClampNeg n.toNatClampNeg)))) (by rw [← hT]; rfl) X'
    exact ⟨t9, step t9 a1, b1⟩
  · refine W.tight C.2.2.2.2.2.2.2.2.1 fun k n1 hk hn => ?_
    obtain ⟨r1, r2, hB⟩ := hbad c
    obtain ⟨what, hwhat⟩ := j_cfn (ty := ty) c
    have hKx := C.2.2.2.2.2.2.2.1.2.2.2.2.1.2
    have hz0 := C.2.2.2.2.2.2.2.2.1
    have hh0 := C.2.2.2.2.2.2.2.2.2.1
    have hRc := C.2.2.2.2.2.2.2.2.2.2.1
    have hRs := C.2.2.2.2.2.2.2.2.2.2.2.1
    have hF := C.2.2.2.2.2.2.2.2.2.2.2.2.1
    have hLo := C.2.2.2.2.2.2.2.2.2.2.2.2.2.1
    have g4 := hW.2.2.2.1
    have g5 := hW.2.2.2.2.1
    obtain ⟨-, k0, hk0, cm0, hkk0⟩ := hTA.1 m1 (fun j => .int (f j))
    obtain ⟨-, k1, hk1, cm1, hkk1⟩ := hTA.1 m2 (fun j => .int (g j))
    have hq : ∀ a : Nat, a < (gH Z.2.1).size → ¬ gz Z.2.1 ≤ a → H[a]? = (gH Z.2.1)[a]? := fun a _ h => hW.2.2.1 a (by omega)
    have hU : vx_Zq Bundle.tN "UNASSIGNED_STACK" Bundle.steD (fun q => gz Z.2.1 ≤ q) (zs Z) H := by
      refine vx_Zq.kept ⟨?_, hKx.2.2.1⟩ hq
      have h4 := C.2.2.2.2.2.2.2.1.2.2.2.2.2.1 4 _ rfl
      obtain ⟨r, hr⟩ := hKx.1
      rw [hr] at h4
      cases r with
      | none => exact Or.inl h4
      | some t => exact Or.inr ⟨t, h4⟩
    have hN : vx_Zq Bundle.tN "SUPPRESSED_SENTINEL" Bundle.listD (fun q => gz Z.2.1 ≤ q) (zs Z) H := by
      refine vx_Zq.kept ⟨?_, hKx.2.2.2⟩ hq
      have h4 := C.2.2.2.2.2.2.2.1.2.2.2.2.2.1 5 _ rfl
      obtain ⟨r, hr⟩ := hKx.2.1
      rw [hr] at h4
      cases r with
      | none => exact Or.inl h4
      | some t => exact Or.inr ⟨t, h4⟩
    have hjw : ∀ w ∈ vx_atM "java/lang/ArrayIndexOutOfBoundsException" ["java/lang/IndexOutOfBoundsException", "java/lang/RuntimeException", "java/lang/Exception"], w.before (za Z) (zs Z) = true := by
      intro w h
      have h1 := List.all_eq_true.mp jvw2 w h
      simp only [Bool.or_eq_true, decide_eq_true_eq] at h1
      rcases h1 with h1 | h1
      · exact hts _ h1
      · have h2 := C.2.2.2.2.2.2.2.1.2.2.2.1 _ h1
        have h3 := List.all_eq_true.mp jvo2 w h
        simp only [vx_ot, Bool.or_eq_true] at h3
        rcases h3 with h3 | h3
        · exact va_Nw.use h3 h2
        · exact word_at (s := zs Z) (U := zs Z) (State.WarmedH.refl _) (good_of_word h3) h2
    intro T hT X
    have htr : (ze Z).platform.stackTraces = false := (show (ze Z).platform.stackTraces = (zl Z).stackTraces by rw [X.admits.platform]).trans C.2.2.2.2.2.2.2.2.2.2.2.2.2.2.2
    have Y := vx_rebase X (R' := { frames := (zR Z).frames, locals := (zR Z).locals, cells := 3, slots := 400 }) (Nat.le_refl _) (Nat.le_refl _) (by show k + 3 ≤ (zR Z).cells; omega) (by show n1 + 400 ≤ (zR Z).slots; omega)
    have hhp : ((T.setVm (zs Z).vm).setFrames (.invoking (zm Z) (za Z) :: (zb Z))).heap = H := hT
    have hW0 : (zs Z).WarmedH ((T.setVm (zs Z).vm).setFrames (.invoking (zm Z) (za Z) :: (zb Z))).vm := State.WarmedH.refl (zs Z)
    have hat' : ∀ w ∈ vx_atM "java/lang/ArrayIndexOutOfBoundsException" ["java/lang/IndexOutOfBoundsException", "java/lang/RuntimeException", "java/lang/Exception"], w.before (za Z) ((T.setVm (zs Z).vm).setFrames (.invoking (zm Z) (za Z) :: (zb Z))) = true := fun w hw => vx_ot_at hW0 rfl (List.all_eq_true.mp jvo2 w hw) (hjw w hw)
    have hU' : vx_Zq Bundle.tN "UNASSIGNED_STACK" Bundle.steD (fun q => gz Z.2.1 ≤ q) ((T.setVm (zs Z).vm).setFrames (.invoking (zm Z) (za Z) :: (zb Z))) ((T.setVm (zs Z).vm).setFrames (.invoking (zm Z) (za Z) :: (zb Z))).heap := by rw [hhp]; exact vx_Zq.moved hW0.alike hU
    have hN' : vx_Zq Bundle.tN "SUPPRESSED_SENTINEL" Bundle.listD (fun q => gz Z.2.1 ≤ q) ((T.setVm (zs Z).vm).setFrames (.invoking (zm Z) (za Z) :: (zb Z))) ((T.setVm (zs Z).vm).setFrames (.invoking (zm Z) (za Z) :: (zb Z))).heap := by rw [hhp]; exact vx_Zq.moved hW0.alike hN
    have ha0 : ∀ w : Cond, goodWord w = true → w ∈ lw_all → w.before (za Z) ((T.setVm (zs Z).vm).setFrames (.invoking (zm Z) (za Z) :: (zb Z))) = true := fun w hg hw => word_at hW0 (good_of_word hg) (hts w hw)
    have hnb := j_cf hty3 hm1 hm2 hwhat
    have hsz1 : (vp_cell (gA Z.2.1 t) (m1, .inl f)).slots.size = m1 := by rw [vp_cell_i, arrV_size]
    have hsz2 : (vp_cell (gA Z.2.1 t) (m2, .inl g)).slots.size = m2 := by rw [vp_cell_i, arrV_size]
    obtain ⟨S9, q, ce, st9, Z9, hce, hcl', hv⟩ := j_acFail Y C.1 htr (own := own) (index := index) C.2.2.2.1 (ha0 _ (by rfl) q1) (ha0 _ (by rfl) q652) (ha0 _ (by rfl) q651) (ha0 _ (by rfl) q115) (src := a) (dst := b) (sp := sp) (dp := dp) (n := n) (cs := vp_cell (gA Z.2.1 t) (m1, .inl f)) (cd := vp_cell (gA Z.2.1 t) (m2, .inl g)) (by rw [hT]; exact hc0) (by rw [hT]; exact hc1) rfl rfl hk0 hk1 hkk0 hkk1 hprim (by rw [hsz1, hsz2]; exact hwhat)
      (vx_own hat' (vx_isRefq hU'.1) (vx_isRefq hN'.1) hU'.2.word hN'.2.word) (fun x hx => nomatch hx) (j_nmod what) hnb (g := F0 (zm Z) pc ls (.int n :: .int dp :: .ref b :: .int sp :: .ref a :: st)) rfl (by rw [C.2.2.1]; exact hls.1) (rest := st) rfl (by rw [C.2.1]; exact hdg) (by show 8 < (zR Z).frames; omega) (by show 2 * 0 + _ + 10240 ≤ (zR Z).locals; omega) (by show 0 + 3 ≤ 3; omega) (by show 0 + 400 ≤ 400; omega)
    obtain ⟨f1, f2⟩ := vx_frame Z9.same
    have f1' : H.size ≤ S9.heap.size := by rw [← hT]; exact f1
    have f2' : ∀ q : Nat, q < H.size → S9.heap[q]? = H[q]? := fun q hq => by
      rw [← hT]
      exact f2 q (by rw [← hT] at hq; exact hq) (fun z hz => nomatch hz)
    have X5 := vx_back9 X Y Z9
    have X6 : Stand (zp Z) (zl Z) (ze Z) (zR Z) (zs Z) (zm Z) (za Z) (zb Z) (zt Z) (zc Z) S9 locs (k + 3) (n1 + 400) := { X5 with same := X5.same.mono (by omega) (by omega) }
    have hW1 := j_thr (Z := Z) (X := Z.1) C hW hk hn ⟨r1, r2⟩ (Nat.le_refl 400) f1' f2' rfl X6
    obtain ⟨t9, a1, b1⟩ := kx q (hB q) S9.heap locs _ _ ls "java/lang/ArrayIndexOutOfBoundsException" ce hW1 (Nat.le_trans hz f1') hL hls rfl hce hv hcl' S9 rfl X6
    exact ⟨t9, st9.trans a1, b1⟩
end JV3
