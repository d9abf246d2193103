/-! multianewarray of two and three dimensions, over the abstract world -/
def outerD (c : ClassId) (N h0 w : Nat) : Nat → Cell
  | 0 => { cls := c, slots := Array.replicate N .null, vm := .none }
  | i + 1 => (outerD c N h0 w i).setSlot i (.ref (h0 + 1 + i * w))
theorem outerD_facts (c : ClassId) (N h0 w : Nat) : ∀ i, (outerD c N h0 w i).cls = c ∧ (outerD c N h0 w i).vm = .none ∧ (outerD c N h0 w i).slots.size = N
  | 0 => ⟨rfl, rfl, by simp [outerD]⟩
  | i + 1 => by
    obtain ⟨h1, h2, h3⟩ := outerD_facts c N h0 w i
    exact ⟨h1, h2, by simp [outerD, Cell.setSlot, h3]⟩
theorem outerD_slot (c : ClassId) (N h0 w : Nat) : ∀ i j, j < N → (outerD c N h0 w i).slots[j]? = some (if j < i then .ref (h0 + 1 + j * w) else .null)
  | 0, j, h => by simp [outerD, h]
  | i + 1, j, h => by
    have ih := outerD_slot c N h0 w i j h
    have hs := (outerD_facts c N h0 w i).2.2
    show ((outerD c N h0 w i).setSlot i (.ref (h0 + 1 + i * w))).slots[j]? = _
    simp only [Cell.setSlot, Array.getElem?_setIfInBounds]
    by_cases e : i = j
    · subst e; simp [hs, h]
    · rw [if_neg e, ih]
      by_cases hj : j < i
      · rw [if_pos hj, if_pos (by omega)]
      · rw [if_neg hj, if_neg (by omega)]
def fill3 (s : State) (c1 c2 c3 : ClassId) (N M L : Nat) (dv : Value) : Nat → State
  | 0 => s.pushCell (outerD c1 N s.heap.size (1 + M) 0)
  | i + 1 => (Jvm.Free.Multi.fill (fill3 s c1 c2 c3 N M L dv i) c2 c3 M L dv M).setCell s.heap.size (outerD c1 N s.heap.size (1 + M) (i + 1))
section
theorem fill3_facts (s : State) (c1 c2 c3 : ClassId) (N M L : Nat) (dv : Value) : ∀ i, (fill3 s c1 c2 c3 N M L dv i).heap.size = s.heap.size + 1 + i * (1 + M) ∧ (fill3 s c1 c2 c3 N M L dv i).heap[s.heap.size]? = some (outerD c1 N s.heap.size (1 + M) i) ∧
    (fill3 s c1 c2 c3 N M L dv i).vm = s.vm ∧ (fill3 s c1 c2 c3 N M L dv i).slotsUsed = s.slotsUsed + N + i * (M + M * L)
  | 0 => ⟨by simp [fill3], by simp [fill3], rfl, by simp [fill3, outerD]⟩
  | i + 1 => by
    obtain ⟨a, b, d, u⟩ := fill3_facts s c1 c2 c3 N M L dv i
    obtain ⟨a2, b2, d2, u2⟩ := Jvm.Free.Multi.fill_facts (fill3 s c1 c2 c3 N M L dv i) c2 c3 M L dv M
    have e1 : (i + 1) * (1 + M) = i * (1 + M) + (1 + M) := by rw [Nat.succ_mul]
    have e2 : (i + 1) * (M + M * L) = i * (M + M * L) + (M + M * L) := by rw [Nat.succ_mul]
    have hlt : s.heap.size < (Jvm.Free.Multi.fill (fill3 s c1 c2 c3 N M L dv i) c2 c3 M L dv M).heap.size := by omega
    have hb : (Jvm.Free.Multi.fill (fill3 s c1 c2 c3 N M L dv i) c2 c3 M L dv M).heap[s.heap.size]? = some (outerD c1 N s.heap.size (1 + M) i) := by
      have hz : s.heap.size < (fill3 s c1 c2 c3 N M L dv i).heap.size := by rw [a]; omega
      rw [Jvm.Free.Multi.fill_old _ _ _ _ _ _ hz]; exact b
    refine ⟨?_, State.heap_setCell_self hb, ?_, ?_⟩
    · show ((Jvm.Free.Multi.fill (fill3 s c1 c2 c3 N M L dv i) c2 c3 M L dv M).setCell _ _).heap.size = _
      simp only [State.setCell, Array.size_setIfInBounds]
      omega
    · show (Jvm.Free.Multi.fill (fill3 s c1 c2 c3 N M L dv i) c2 c3 M L dv M).vm = _
      rw [d2, d]
    · show (Jvm.Free.Multi.fill (fill3 s c1 c2 c3 N M L dv i) c2 c3 M L dv M).slotsUsed = _
      rw [u2, u, e2]
      omega
theorem fill3_setTop (s : State) (f : JFrame) (c1 c2 c3 : ClassId) (N M L : Nat) (dv : Value) : ∀ i, fill3 (s.setTop f) c1 c2 c3 N M L dv i = (fill3 s c1 c2 c3 N M L dv i).setTop f
  | 0 => rfl
  | i + 1 => by simp only [fill3, fill3_setTop s f c1 c2 c3 N M L dv i, Jvm.Free.Multi.fill_setTop, State.heap_setTop, State.setCell_setTop]
theorem fill3_old (s : State) (c1 c2 c3 : ClassId) (N M L : Nat) (dv : Value) {a : Addr} (ha : a < s.heap.size) : ∀ i, (fill3 s c1 c2 c3 N M L dv i).heap[a]? = s.heap[a]?
  | 0 => State.heap_pushCell_of_lt _ _ ha
  | i + 1 => by
    have f1 := (fill3_facts s c1 c2 c3 N M L dv i).1
    show ((Jvm.Free.Multi.fill (fill3 s c1 c2 c3 N M L dv i) c2 c3 M L dv M).setCell s.heap.size _).heap[a]? = _
    have hz : a < (fill3 s c1 c2 c3 N M L dv i).heap.size := Nat.lt_of_lt_of_le ha (by rw [f1]; omega)
    rw [State.heap_setCell_other (Nat.ne_of_gt ha), Jvm.Free.Multi.fill_old _ _ _ _ _ _ hz]
    exact fill3_old s c1 c2 c3 N M L dv ha i
theorem fill3_inner (s : State) (c1 c2 c3 : ClassId) (N M L : Nat) (dv : Value) : ∀ i j, j < i → (fill3 s c1 c2 c3 N M L dv i).heap[s.heap.size + 1 + j * (1 + M)]? = some (Jvm.Free.Multi.outerC c2 M (s.heap.size + 1 + j * (1 + M)) M) ∧ ∀ k, k < M → (fill3 s c1 c2 c3 N M L dv i).heap[s.heap.size + 1 + j * (1 + M) + 1 + k]? = some (Jvm.Free.Multi.innerC c3 L dv)
  | 0, _, h => absurd h (Nat.not_lt_zero _)
  | i + 1, j, h => by
    have f1 := (fill3_facts s c1 c2 c3 N M L dv i).1
    have f2 := Jvm.Free.Multi.fill_facts (fill3 s c1 c2 c3 N M L dv i) c2 c3 M L dv M
    have hne : ∀ q, s.heap.size ≠ s.heap.size + 1 + q := fun q => by omega
    rcases Nat.lt_or_ge j i with hj | hj
    · obtain ⟨i1, i2⟩ := fill3_inner s c1 c2 c3 N M L dv i j hj
      have hm : (j + 1) * (1 + M) ≤ i * (1 + M) := Nat.mul_le_mul_right _ hj
      rw [Nat.succ_mul] at hm
      refine ⟨?_, fun k hk => ?_⟩
      · show ((Jvm.Free.Multi.fill (fill3 s c1 c2 c3 N M L dv i) c2 c3 M L dv M).setCell s.heap.size _).heap[_]? = _
        have hz : s.heap.size + 1 + j * (1 + M) < (fill3 s c1 c2 c3 N M L dv i).heap.size := by rw [f1]; omega
        rw [State.heap_setCell_other (hne _), Jvm.Free.Multi.fill_old _ _ _ _ _ _ hz]
        exact i1
      · show ((Jvm.Free.Multi.fill (fill3 s c1 c2 c3 N M L dv i) c2 c3 M L dv M).setCell s.heap.size _).heap[_]? = _
        have hz : s.heap.size + 1 + j * (1 + M) + 1 + k < (fill3 s c1 c2 c3 N M L dv i).heap.size := by rw [f1]; omega
        have hy : s.heap.size ≠ s.heap.size + 1 + j * (1 + M) + 1 + k := by omega
        rw [State.heap_setCell_other hy, Jvm.Free.Multi.fill_old _ _ _ _ _ _ hz]
        exact i2 k hk
    · have e : j = i := by omega
      subst e
      refine ⟨?_, fun k hk => ?_⟩
      · show ((Jvm.Free.Multi.fill (fill3 s c1 c2 c3 N M L dv j) c2 c3 M L dv M).setCell s.heap.size _).heap[_]? = _
        rw [State.heap_setCell_other (hne _), ← f1]
        exact f2.2.1
      · show ((Jvm.Free.Multi.fill (fill3 s c1 c2 c3 N M L dv j) c2 c3 M L dv M).setCell s.heap.size _).heap[_]? = _
        have hy : s.heap.size ≠ s.heap.size + 1 + j * (1 + M) + 1 + k := by omega
        rw [State.heap_setCell_other hy, ← f1]
        exact Jvm.Free.Multi.fill_inner _ _ _ _ _ _ _ _ hk
end
section
variable {E : CtlPost} {e : Env} {d : Bool} {acts : List Action} {s : State}
theorem wp_make3 {c1 c2 c3 cc : ClassId} {k1 k2 k3 : Class} {t1 t2 type : FieldType} {n m l : Int32} (hk1 : s.vm.classes[c1]? = some k1) (hkind1 : k1.kind = .array c2 t1) (href1 : t1.isReference = true) (hk2 : s.vm.classes[c2]? = some k2) (hkind2 : k2.kind = .array c3 t2) (href2 : t2.isReference = true)
    (hk3 : s.vm.classes[c3]? = some k3) (hkind3 : k3.kind = .array cc type) (hn : ¬ n < 0) (hm : ¬ m < 0) (hl : ¬ l < 0)
    (hl1 : ¬ n.toNatClampNeg > e.platform.arrayLengthLimit) (hh1 : ¬ n.toNatClampNeg * componentBytes t1 > e.platform.maxHeapBytes)
    (hl2 : ¬ m.toNatClampNeg > e.platform.arrayLengthLimit) (hh2 : ¬ m.toNatClampNeg * componentBytes t2 > e.platform.maxHeapBytes)
    (hl3 : ¬ l.toNatClampNeg > e.platform.arrayLengthLimit) (hh3 : ¬ l.toNatClampNeg * componentBytes type > e.platform.maxHeapBytes)
    (hdf : fits type (defaultValue type) = true) (hdd : (defaultValue type).isDefault = true)
    (hc : s.heap.size + 1 + n.toNatClampNeg * (1 + m.toNatClampNeg) ≤ e.platform.maxCells) (hs : s.slotsUsed + n.toNatClampNeg + n.toNatClampNeg * (m.toNatClampNeg + m.toNatClampNeg * l.toNatClampNeg) ≤ e.platform.maxSlots)
    {Q : Addr → Pre} (hq : ∀ d' acts', Q s.heap.size d' acts' (fill3 s c1 c2 c3 n.toNatClampNeg m.toNatClampNeg l.toNatClampNeg (defaultValue type) n.toNatClampNeg)) :
    wp (multianewarray.make c1 [n, m, l]) Q E e d acts s := by
  have hfind : ([m, l].find? (· < 0)) = none := by simp [hm, hl]
  rw [multianewarray.make]
  simp only [wp_bind', W.ite, hn, if_false, wp_pure', W.theClass, hk1, hkind1, Option.some.injEq, exists_eq_left']
  refine Jvm.Free.Multi.wp_newArray hk1 hkind1 hl1 hh1 (Jvm.Free.Multi.refFits href1 _ (Or.inl rfl)) rfl (by omega) (by have := Nat.zero_le (n.toNatClampNeg * (m.toNatClampNeg + m.toNatClampNeg * l.toNatClampNeg)); omega) ?_
  simp only [hfind]
  rw [ite_self, wp_bind', Std.Legacy.Range.forIn_eq_forIn_range']
  have hsz : ([:n.toNatClampNeg] : Std.Legacy.Range).size = n.toNatClampNeg := by simp [Std.Legacy.Range.size]
  rw [hsz]
  show wp (forIn (List.range' 0 n.toNatClampNeg 1) PUnit.unit _) _ E e d acts _
  refine wp_forIn_inv (fun rest s' => ∃ i, i ≤ n.toNatClampNeg ∧ rest = List.range' i (n.toNatClampNeg - i) ∧ s' = fill3 s c1 c2 c3 n.toNatClampNeg m.toNatClampNeg l.toNatClampNeg (defaultValue type) i) _ _ ⟨0, Nat.zero_le _, rfl, rfl⟩ ?_ ?_
  · rintro x rest s' d' acts' Q' ⟨i, hi, hl', rfl⟩ hnext
    have hlt : i < n.toNatClampNeg := by
      rcases Nat.lt_or_ge i n.toNatClampNeg with h | h
      · exact h
      · rw [show n.toNatClampNeg - i = 0 from by omega] at hl'; simp at hl'
    obtain ⟨rfl, hrest⟩ : x = i ∧ rest = List.range' (i + 1) (n.toNatClampNeg - (i + 1)) := by
      rw [show n.toNatClampNeg - i = (n.toNatClampNeg - (i + 1)) + 1 from by omega, List.range'_succ] at hl'
      exact ⟨(List.cons.inj hl').1, (List.cons.inj hl').2⟩
    obtain ⟨f1, f2, f3, f4⟩ := fill3_facts s c1 c2 c3 n.toNatClampNeg m.toNatClampNeg l.toNatClampNeg (defaultValue type) x
    obtain ⟨o1, o2, o3⟩ := outerD_facts c1 n.toNatClampNeg s.heap.size (1 + m.toNatClampNeg) x
    have hmul : x * (1 + m.toNatClampNeg) + (1 + m.toNatClampNeg) ≤ n.toNatClampNeg * (1 + m.toNatClampNeg) := by
      have := Nat.mul_le_mul_right (1 + m.toNatClampNeg) (show x + 1 ≤ n.toNatClampNeg from hlt)
      rw [Nat.succ_mul] at this; exact this
    have hmul2 : x * (m.toNatClampNeg + m.toNatClampNeg * l.toNatClampNeg) + (m.toNatClampNeg + m.toNatClampNeg * l.toNatClampNeg) ≤ n.toNatClampNeg * (m.toNatClampNeg + m.toNatClampNeg * l.toNatClampNeg) := by
      have := Nat.mul_le_mul_right (m.toNatClampNeg + m.toNatClampNeg * l.toNatClampNeg) (show x + 1 ≤ n.toNatClampNeg from hlt)
      rw [Nat.succ_mul] at this; exact this
    simp only [wp_bind']
    refine Jvm.Free.Multi.wp_make2 (k := k2) (kc := k3) (comp := c3) (cc := cc) (t0 := t2) (type := type) (by rw [f3]; exact hk2) hkind2 href2 (by rw [f3]; exact hk3) hkind3 hm hl hl2 hh2 hl3 hh3 hdf hdd (by rw [f1]; omega) (by rw [f4]; omega) (fun d9 acts9 => ?_)
    obtain ⟨g1, g2, g3, g4⟩ := Jvm.Free.Multi.fill_facts (fill3 s c1 c2 c3 n.toNatClampNeg m.toNatClampNeg l.toNatClampNeg (defaultValue type) x) c2 c3 m.toNatClampNeg l.toNatClampNeg (defaultValue type) m.toNatClampNeg
    have hlt0 : s.heap.size < (fill3 s c1 c2 c3 n.toNatClampNeg m.toNatClampNeg l.toNatClampNeg (defaultValue type) x).heap.size := by rw [f1]; omega
    simp only [wp_bind', W.writeLoc, wp_pure']
    refine ⟨outerD c1 n.toNatClampNeg s.heap.size (1 + m.toNatClampNeg) x, by rw [Jvm.Free.Multi.fill_old _ _ _ _ _ _ hlt0]; exact f2, by rw [o2]; simp, by rw [o3]; exact hlt, ?_, hnext _ _ _ ⟨x + 1, hlt, hrest, ?_⟩⟩
    · rw [o1, o2]
      simp [State.fitsSlot, State.slotType?, g3, f3, hk1, hkind1, Jvm.Free.Multi.refFits href1 _ (Or.inr ⟨_, rfl⟩)]
    · rw [f1]; rfl
  · rintro s' d' acts' ⟨i, hi, hl', rfl⟩
    have hiN : i = n.toNatClampNeg := by
      rcases Nat.lt_or_ge i n.toNatClampNeg with h | h
      · rw [show n.toNatClampNeg - i = (n.toNatClampNeg - (i + 1)) + 1 from by omega, List.range'_succ] at hl'; cases hl'
      · omega
    subst hiN
    simp only [wp_pure']
    exact hq _ _
end
section
variable {p : Program} {l : Launch} {e : Env} {R : Room} {s : State} {m : MethodId} {args : Array Value} {below : List Frame} {meth : Method} {c : Code} {T : State} {locs : List Loc} {cells slots : Nat}
theorem filled3 (X : Stand p l e R s m args below meth c T locs cells slots) (c1 c2 c3 : ClassId) (N M L : Nat) (dv : Value) :
    ∀ i, Stand p l e R s m args below meth c (fill3 T c1 c2 c3 N M L dv i) locs (cells + 1 + i * (1 + M)) (slots + N + i * (M + M * L))
  | 0 => by
    have h := X.pushed (outerD c1 N T.heap.size (1 + M) 0)
    rw [(outerD_facts c1 N T.heap.size (1 + M) 0).2.2] at h
    simpa [fill3] using h
  | i + 1 => by
    have Xi := filled3 X c1 c2 c3 N M L dv i
    obtain ⟨f1, f2, f3, f4⟩ := fill3_facts T c1 c2 c3 N M L dv i
    have Xf := (Xi.filled c2 c3 M L dv M).dropFresh (fun x hx => by
      obtain ⟨j, -, rfl⟩ := List.mem_map.mp hx
      exact Xi.heapGrown)
    have hcell : (Jvm.Free.Multi.fill (fill3 T c1 c2 c3 N M L dv i) c2 c3 M L dv M).heap[T.heap.size]? = some (outerD c1 N T.heap.size (1 + M) i) := by
      have hz : T.heap.size < (fill3 T c1 c2 c3 N M L dv i).heap.size := by rw [f1]; omega
      rw [Jvm.Free.Multi.fill_old _ _ _ _ _ _ hz]; exact f2
    have h := (Xf.stored hcell i (.ref (T.heap.size + 1 + i * (1 + M)))).dropFresh (J := [⟨T.heap.size, i⟩]) (fun x hx => by rw [List.mem_singleton.mp hx]; exact X.heapGrown)
    have e1 : cells + 1 + (i + 1) * (1 + M) = cells + 1 + i * (1 + M) + 1 + M := by rw [Nat.succ_mul]; omega
    have e2 : slots + N + (i + 1) * (M + M * L) = slots + N + i * (M + M * L) + M + M * L := by rw [Nat.succ_mul]; omega
    rw [e1, e2]
    exact h
theorem multianewarray3 (X : Stand p l e R s m args below meth c T locs cells slots) (hexec : p.tables.exec = Jvm.exec) {own : String} {index : Nat} {ty : FieldType}
    (hown : s.vm.findClass own = some m.cls) (hclink : (Cond.classLink own index ("[" ++ (FieldType.array (.array ty)).toString)).before args s = true)
    (hover3 : (Cond.arrayOver (.array (.array ty))).before args s = true) (hover : (Cond.arrayOver (.array ty)).before args s = true) (harr : (Cond.arrayClass ty).before args s = true)
    {g : JFrame} (hg : g.method = m) (hdg : decode c.code g.pc = .ok (.multianewarray index 3, 4)) {n k q : Int32} {rest : List Value} (hstack : g.stack = .int q :: .int k :: .int n :: rest)
    (hn : ¬ n < 0) (hk : ¬ k < 0) (hq : ¬ q < 0) (hb1 : n.toNatClampNeg * 4 ≤ 536870912) (hb2 : k.toNatClampNeg * 4 ≤ 536870912) (hb3 : q.toNatClampNeg * componentBytes ty ≤ 536870912) (hb4 : q.toNatClampNeg ≤ 536870912)
    (hdf : fits ty (defaultValue ty) = true) (hdd : (defaultValue ty).isDefault = true)
    (hcells : cells + (1 + n.toNatClampNeg * (1 + k.toNatClampNeg)) ≤ R.cells) (hslots : slots + (n.toNatClampNeg + n.toNatClampNeg * (k.toNatClampNeg + k.toNatClampNeg * q.toNatClampNeg)) ≤ R.slots) :
    ∃ (vm₁ : Vm) (c1 c2 c3 : ClassId), s.WarmedH vm₁ ∧ s.vm.findClass ("[" ++ (FieldType.array (.array ty)).toString) = some c1 ∧ s.vm.findClass (FieldType.array (.array ty)).toString = some c2 ∧ s.vm.findClass (FieldType.array ty).toString = some c3 ∧
      Stand p l e R s m args below meth c (fill3 (T.setVm vm₁) c1 c2 c3 n.toNatClampNeg k.toNatClampNeg q.toNatClampNeg (defaultValue ty) n.toNatClampNeg) locs (cells + 1 + n.toNatClampNeg * (1 + k.toNatClampNeg)) (slots + n.toNatClampNeg + n.toNatClampNeg * (k.toNatClampNeg + k.toNatClampNeg * q.toNatClampNeg)) ∧
      ∀ target, Steps p.tables e below ((fill3 (T.setVm vm₁) c1 c2 c3 n.toNatClampNeg k.toNatClampNeg q.toNatClampNeg (defaultValue ty) n.toNatClampNeg).setTop { g with pc := g.pc + 4, stack := .ref T.heap.size :: rest }) target →
        Steps p.tables e below (T.setTop g) target := by
  subst hg
  have hpl : e.platform.magicAccessors = ({} : Platform).magicAccessors := by rw [X.admits.platform]
  obtain ⟨c2, c1, kA, hcomp2, hkA, hkindA, hnameA⟩ := Cond.arrayOver_specA hover3
  obtain ⟨c3, c2', kB, hcomp3, hkB, hkindB, hnameB⟩ := Cond.arrayOver_specA hover
  obtain ⟨c3', kC, cc, hcomp', hkC, hkindC⟩ := Cond.arrayClass_spec harr
  have ecomp : c3' = c3 := Option.some.inj (hcomp'.symm.trans hcomp3)
  subst ecomp
  have ecomp2 : c2' = c2 := Option.some.inj (hnameB.symm.trans hcomp2)
  subst ecomp2
  obtain ⟨c0, hfc0, hcl⟩ := Cond.classLink_spec hown hclink e.platform hpl
  cases hnameA.symm.trans hfc0
  obtain ⟨hg₁, hwarm₁, hready₁⟩ := State.classEntry (e := e) X.warmed hcl
  generalize T.vm.noted g.method.cls index (.cls c1) = vm₁ at hg₁ hwarm₁ hready₁
  have hal : s.vm.Alike vm₁ := hwarm₁.alike
  obtain ⟨kA₁, hkA₁, heA⟩ := hal.2.2 _ _ hkA
  obtain ⟨kB₁, hkB₁, heB⟩ := hal.2.2 _ _ hkB
  obtain ⟨kC₁, hkC₁, heC⟩ := hal.2.2 _ _ hkC
  have hkindA₁ : kA₁.kind = .array c2' (.array (.array ty)) := by rw [heA]; exact hkindA
  have hkindB₁ : kB₁.kind = .array c3' (.array ty) := by rw [heB]; exact hkindB
  have hkindC₁ : kC₁.kind = .array cc ty := by rw [heC]; exact hkindC
  have X₁ := X.noted hwarm₁
  obtain ⟨hr1, hr2⟩ := X.roomAbove hcells hslots
  refine ⟨vm₁, c1, c2', c3', hwarm₁, hnameA, hcomp2, hcomp3, filled3 X₁ c1 c2' c3' _ _ _ _ _, fun target hrest => ?_⟩
  have hl1 : ¬ n.toNatClampNeg > e.platform.arrayLengthLimit := by rw [Launch.admits_arrayLengthLimit X.admits]; omega
  have hh1 : ¬ n.toNatClampNeg * componentBytes (.array (.array ty)) > e.platform.maxHeapBytes := by
    rw [Launch.admits_maxHeapBytes X.admits]; show ¬ n.toNatClampNeg * 4 > 536870912; omega
  have hl2 : ¬ k.toNatClampNeg > e.platform.arrayLengthLimit := by rw [Launch.admits_arrayLengthLimit X.admits]; omega
  have hh2 : ¬ k.toNatClampNeg * componentBytes (.array ty) > e.platform.maxHeapBytes := by
    rw [Launch.admits_maxHeapBytes X.admits]; show ¬ k.toNatClampNeg * 4 > 536870912; omega
  have hl3 : ¬ q.toNatClampNeg > e.platform.arrayLengthLimit := by rw [Launch.admits_arrayLengthLimit X.admits]; omega
  have hh3 : ¬ q.toNatClampNeg * componentBytes ty > e.platform.maxHeapBytes := by rw [Launch.admits_maxHeapBytes X.admits]; omega
  jvm_step X.here [hexec, hdg]
  simp only [multianewarray.sem, wp_bind', W.resolveClassAt_links (State.method?_setTop g X.here.top) hg₁]
  rw [W.popN, if_neg (by decide)]
  refine ⟨g, State.topJava?_setTop' (s := T.setVm vm₁) g X.here.top, [.int n, .int k, .int q], rest, rfl, hstack, ?_⟩
  simp only [List.mapM_cons, List.mapM_nil, wp_bind', wp_pure']
  refine wp_make3 (k1 := kA₁) (k2 := kB₁) (k3 := kC₁) (c2 := c2') (c3 := c3') (cc := cc) (t1 := .array (.array ty)) (t2 := .array ty) (type := ty) hkA₁ hkindA₁ rfl hkB₁ hkindB₁ rfl hkC₁ hkindC₁ hn hk hq hl1 hh1 hl2 hh2 hl3 hh3 hdf hdd (by show T.heap.size + 1 + _ ≤ _; omega) (by show T.slotsUsed + _ + _ ≤ _; omega) (fun d' acts' => ?_)
  have XF := filled3 X₁ c1 c2' c3' n.toNatClampNeg k.toNatClampNeg q.toNatClampNeg (defaultValue ty) n.toNatClampNeg
  have eS : ((T.setTop g).setVm vm₁).setTop { g with stack := rest } = (T.setVm vm₁).setTop { g with stack := rest } := by
    show ((T.setVm vm₁).setTop g).setTop _ = _
    rw [State.setTop_setTop]
  rw [eS, fill3_setTop]
  simp only [wp_bind', W.mark, W.pushRef, State.topJava?_setTop' _ XF.here.top, Option.some.injEq, exists_eq_left', State.setTop_setTop, State.heap_setTop]
  intro acts
  simp [jvm, XF.here.top]
  exact hrest
end
def jgrid (S : jS) (a N M : Nat) : jS := (fun q => if q = a then some (6, .inr (.inl (N, fun i => some (a + 1 + i)))) else if a < q ∧ q ≤ a + N then some (0, .inl (M, fun _ => 0)) else S.1 q, S.2.1 - (1 + N), S.2.2.1 - (N + N * M), S.2.2.2)
def jcube (S : jS) (a N M L : Nat) : jS := (fun q => if q = a then some (7, .inr (.inl (N, fun i => some (a + 1 + i * (1 + M))))) else if a < q ∧ q ≤ a + N * (1 + M) then (if (q - a - 1) % (1 + M) = 0 then some (6, .inr (.inl (M, fun i => some (q + 1 + i)))) else some (0, .inl (L, fun _ => 0))) else S.1 q, S.2.1 - (1 + N * (1 + M)), S.2.2.1 - (N + N * (M + M * L)), S.2.2.2)
def jmna2 (S : jS) (n k : Int32) (K : jS → Nat → Prop) : Prop := ¬ n < 0 ∧ ¬ k < 0 ∧ n ≤ 65535 ∧ k ≤ 65535 ∧ 1 + n.toNatClampNeg ≤ S.2.1 ∧ n.toNatClampNeg + n.toNatClampNeg * k.toNatClampNeg ≤ S.2.2.1 ∧ ∀ a : Nat, (∀ q : Nat, a ≤ q → S.1 q = none) → K (jgrid S a n.toNatClampNeg k.toNatClampNeg) a
def jmna3 (S : jS) (n k q : Int32) (K : jS → Nat → Prop) : Prop := ¬ n < 0 ∧ ¬ k < 0 ∧ ¬ q < 0 ∧ n ≤ 65535 ∧ k ≤ 65535 ∧ q ≤ 65535 ∧ 1 + n.toNatClampNeg * (1 + k.toNatClampNeg) ≤ S.2.1 ∧ n.toNatClampNeg + n.toNatClampNeg * (k.toNatClampNeg + k.toNatClampNeg * q.toNatClampNeg) ≤ S.2.2.1 ∧ ∀ a : Nat, (∀ q : Nat, a ≤ q → S.1 q = none) → K (jcube S a n.toNatClampNeg k.toNatClampNeg q.toNatClampNeg) a
theorem j_repl (c : ClassId) (N : Nat) (v : Value) : ({ cls := c, slots := Array.replicate N v, vm := .none } : Cell) = arrV c N (fun _ => v) := by
  unfold arrV
  congr 1
  apply Array.ext <;> simp
theorem j_outerD (c : ClassId) (N h0 w : Nat) : ∀ i : Nat, outerD c N h0 w i = arrV c N (fun j => if j < i then .ref (h0 + 1 + j * w) else .null)
  | 0 => by
    show ({ cls := c, slots := Array.replicate N .null, vm := .none } : Cell) = _
    rw [j_repl]
    rfl
  | i + 1 => by
    show (outerD c N h0 w i).setSlot i _ = _
    rw [j_outerD c N h0 w i, arrV_store]
    congr 1
    funext j
    by_cases e : j = i
    · subst e
      simp [updV]
    · have e2 : (j < i + 1) = (j < i) := by apply propext; omega
      simp [updV, e, e2]
theorem j_outerC (c : ClassId) (N h0 : Nat) : ∀ i : Nat, Jvm.Free.Multi.outerC c N h0 i = outerD c N h0 1 i
  | 0 => rfl
  | i + 1 => by
    show (Jvm.Free.Multi.outerC c N h0 i).setSlot i _ = (outerD c N h0 1 i).setSlot i _
    rw [j_outerC c N h0 i, Nat.mul_one]
theorem j_outR (c : ClassId) (N h0 w : Nat) : outerD c N h0 w N = vp_cell c (N, .inr (.inr (.inr (.inr (fun i => some (h0 + 1 + i * w)))))) := by
  rw [j_outerD, vp_cell_q]
  unfold arrV
  congr 1
  apply Array.ext
  · simp
  · intro i h1 h2
    have h3 : i < N := by simpa using h1
    simp [h3, va_rf]
theorem j_innI (c : ClassId) (M : Nat) : Jvm.Free.Multi.innerC c M (defaultValue .int) = vp_cell c (M, .inl (fun _ => 0)) := j_repl c M _
theorem j_nmR {G : jG} {U : State} (hK : jK G U) : U.vm.findClass "[I" = some (gA G 0) ∧ U.vm.findClass "[[I" = some (gA G 6) ∧ U.vm.findClass "[[[I" = some (gA G 7) := by
  refine ⟨va_nm_int (hK.2.2.1 0 .int rfl (by decide)).2, ?_, ?_⟩
  · have h := (hK.2.2.1 6 (.array .int) rfl (by decide)).2
    have e : "[" ++ (FieldType.array .int).toString = "[[I" := by decide +kernel
    rw [← e]
    exact h
  · have h := (hK.2.2.1 7 (.array (.array .int)) rfl (by decide)).2
    have e : "[" ++ (FieldType.array (.array .int)).toString = "[[[I" := by decide +kernel
    rw [← e]
    exact h
theorem j_above {G : jG} {S : jS} {H : Heap} {U : State} (hW : jW G S H) (hK : jK G U) : ∀ q : Nat, H.size ≤ q → S.1 q = none := by
  intro q h1
  cases h : S.1 q with
  | none => rfl
  | some e =>
    have h4 := hW.2.1
    rcases hW.1 _ _ h with ⟨-, x, -⟩ | ⟨y, x⟩
    · have := x.lt
      omega
    · have h3 := (hK.2.2.2.2.2.2.2 _ _ x).2.1
      omega
theorem j_ao {ty : FieldType} {args : Array Value} {s : State} (h : va_Nw (.arrayOver ty) s) : (Cond.arrayOver ty).before args s = true := by
  unfold va_Nw at h
  simp only [Cond.before, Cond.holds, Cond.value] at h ⊢
  exact h
section JMN
variable {Z : jZ} {d : Nat} {cc : ByteArray} {own : String} {ret : Option FieldType} {y : MethodName} {pc : Nat} {S : jS} {lv : List (Nat × Value)} {st : List Value}
theorem jr_mna2 (C : jC Z d cc own ret y) (pc' : Nat) (hp : pc + 4 = pc') {index : Nat} (hl : Cond.classLink own index "[[I" ∈ lw_all) (hdg : decode cc pc = .ok (.multianewarray index 2, 4)) {n k : Int32} {K : jS → Nat → Prop} (h : jmna2 S n k K) (kk : ∀ (S1 : jS) (a : Nat), K S1 a → jJ Z S1 lv pc' (.ref a :: st)) : jJ Z S lv pc (.int k :: .int n :: st) := by
  subst hp
  intro H locs cells slots ls hW hz hL hls
  obtain ⟨hn, hk, hn9, hk9, hc, hs, hK9⟩ := h
  refine W.tight C.2.2.2.2.2.2.2.2.1 fun c1 n1 hc1 hn1 => ?_
  have b1 := j_toInt hn hn9
  have b2 := j_toInt hk hk9
  have hK := C.2.2.2.2.2.2.2.1
  have g4 := hW.2.2.2.1
  have g5 := hW.2.2.2.2.1
  have hRc := C.2.2.2.2.2.2.2.2.2.2.1
  have hRs := C.2.2.2.2.2.2.2.2.2.2.2.1
  have hname : "[" ++ (FieldType.array .int).toString = "[[I" := by decide +kernel
  have hname2 : (FieldType.array .int).toString = "[I" := by decide +kernel
  intro T hT X
  obtain ⟨vm₁, cA, comp, hWm, e1, e2, -, -, X', step⟩ := X.multianewarray2F C.1 (own := own) (index := index) (ty := .int) C.2.2.2.1 (by rw [hname]; exact C.2.2.2.2.1 _ hl) (j_ao (hK.2.2.2.1 _ (jx_g q210 rfl))) (C.2.2.2.2.1 _ q227)
    (g := F0 (zm Z) pc ls (.int k :: .int n :: st)) rfl (by rw [C.2.1]; exact hdg) (n := n) (k := k) (rest := st) rfl hn hk (by omega) (by show k.toNatClampNeg * 4 ≤ _; omega) (by omega) rfl rfl (by show _ ≤ (zR Z).cells; omega) (by show _ ≤ (zR Z).slots; omega)
  rw [hname] at e1
  rw [hname2] at e2
  obtain ⟨m1, m2, -⟩ := j_nmR hK
  cases e1.symm.trans m2
  cases e2.symm.trans m1
  have hTs : (T.setVm vm₁).heap = H := hT
  obtain ⟨f1, f2, f3, f4⟩ := Jvm.Free.Multi.fill_facts (T.setVm vm₁) (gA Z.2.1 6) (gA Z.2.1 0) n.toNatClampNeg k.toNatClampNeg (defaultValue .int) n.toNatClampNeg
  have fi := fun j hj => Jvm.Free.Multi.fill_inner (T.setVm vm₁) (gA Z.2.1 6) (gA Z.2.1 0) n.toNatClampNeg k.toNatClampNeg (defaultValue .int) n.toNatClampNeg j hj
  have fo := fun (a : Addr) (ha : a < (T.setVm vm₁).heap.size) => Jvm.Free.Multi.fill_old (T.setVm vm₁) (gA Z.2.1 6) (gA Z.2.1 0) n.toNatClampNeg k.toNatClampNeg (defaultValue .int) ha n.toNatClampNeg
  rw [hTs] at f1 f2 fi fo
  generalize hF : Jvm.Free.Multi.fill (T.setVm vm₁) (gA Z.2.1 6) (gA Z.2.1 0) n.toNatClampNeg k.toNatClampNeg (defaultValue .int) n.toNatClampNeg = F at X' step f1 f2 f3 f4 fi fo
  have hn9 := X'.same.2.2.2.2.1
  have hx6 := X'.same.2.2.2.2.2
  have hx2 := X'.same.2.1
  have hFh : (F.setVm (zs Z).vm).heap = F.heap := rfl
  rw [hFh] at hn9 hx6 hx2
  have hsz : ∀ a : Nat, a < (zs Z).heap.size → (F.heap[a]?).map (fun c => c.slots.size) = ((zs Z).heap[a]?).map (fun c => c.slots.size) := by
    intro a ha
    obtain ⟨c', q1, -, q3, -⟩ := hx6 a _ (Array.getElem?_eq_getElem ha)
    rw [q1, Array.getElem?_eq_getElem ha]
    simp [q3]
  have hn2 := jsl_split C.2.2.2.2.2.2.2.2.1 hx2 hsz
  have hn3 : jsl F.heap (zs Z).heap.size ≤ n1 + n.toNatClampNeg + n.toNatClampNeg * k.toNatClampNeg := hn9
  have w1 := hW.2.1
  have hW1 : jW Z.2.1 (jgrid S H.size n.toNatClampNeg k.toNatClampNeg) F.heap := by
    refine ⟨fun q e he => ?_, by omega, fun q hq => ?_, ?_, ?_, hW.2.2.2.2.2⟩
    · have he : (if q = H.size then some (6, .inr (.inl (n.toNatClampNeg, fun i => some (H.size + 1 + i)))) else if H.size < q ∧ q ≤ H.size + n.toNatClampNeg then some (0, .inl (k.toNatClampNeg, fun _ => 0)) else S.1 q) = some e := he
      by_cases c1 : q = H.size
      · rw [if_pos c1] at he
        cases he
        refine Or.inl ⟨(show (6 : Nat) < 10 by decide), ?_, by omega⟩
        show F.heap[q]? = _
        rw [c1, f2, j_outerC, j_outR]
        simp only [Nat.mul_one]
      · rw [if_neg c1] at he
        by_cases c2 : H.size < q ∧ q ≤ H.size + n.toNatClampNeg
        · rw [if_pos c2] at he
          cases he
          refine Or.inl ⟨(show (0 : Nat) < 10 by decide), ?_, by omega⟩
          show F.heap[q]? = _
          have h3 := fi (q - H.size - 1) (by omega)
          rw [show H.size + 1 + (q - H.size - 1) = q by omega, j_innI] at h3
          exact h3
        · rw [if_neg c2] at he
          rcases hW.1 q e he with ⟨q0, q1, q2⟩ | q9
          · exact Or.inl ⟨q0, q1.kept (fo q q1.lt), q2⟩
          · exact Or.inr q9
    · exact (fo q (by show q < H.size; omega)).trans (hW.2.2.1 q hq)
    · show F.heap.size + (S.2.1 - _) ≤ _
      omega
    · show jsl F.heap _ + (S.2.2.1 - _) ≤ _
      omega
  obtain ⟨t9, st9, q9⟩ := kk _ H.size (hK9 H.size (j_above hW hK)) F.heap locs _ _ ls hW1 (by omega) hL hls F rfl X'
  rw [show T.heap.size = H.size by rw [hT]] at step
  exact ⟨t9, step t9 st9, q9⟩
theorem jr_mna3 (C : jC Z d cc own ret y) (pc' : Nat) (hp : pc + 4 = pc') {index : Nat} (hl : Cond.classLink own index "[[[I" ∈ lw_all) (hdg : decode cc pc = .ok (.multianewarray index 3, 4)) {n k r : Int32} {K : jS → Nat → Prop} (h : jmna3 S n k r K) (kk : ∀ (S1 : jS) (a : Nat), K S1 a → jJ Z S1 lv pc' (.ref a :: st)) : jJ Z S lv pc (.int r :: .int k :: .int n :: st) := by
  subst hp
  intro H locs cells slots ls hW hz hL hls
  obtain ⟨hn, hk, hr, hn9, hk9, hr9, hc, hs, hK9⟩ := h
  refine W.tight C.2.2.2.2.2.2.2.2.1 fun c1 n1 hc1 hn1 => ?_
  have b1 := j_toInt hn hn9
  have b2 := j_toInt hk hk9
  have b3 := j_toInt hr hr9
  have hK := C.2.2.2.2.2.2.2.1
  have g4 := hW.2.2.2.1
  have g5 := hW.2.2.2.2.1
  have hRc := C.2.2.2.2.2.2.2.2.2.2.1
  have hRs := C.2.2.2.2.2.2.2.2.2.2.2.1
  have hname : "[" ++ (FieldType.array (.array .int)).toString = "[[[I" := by decide +kernel
  have hname2 : (FieldType.array (.array .int)).toString = "[[I" := by decide +kernel
  have hname3 : (FieldType.array .int).toString = "[I" := by decide +kernel
  intro T hT X
  obtain ⟨vm₁, c01, c02, c03, hWm, e1, e2, e3, X', step⟩ := multianewarray3 X C.1 (own := own) (index := index) (ty := .int) C.2.2.2.1 (by rw [hname]; exact C.2.2.2.2.1 _ hl) (j_ao (hK.2.2.2.1 _ (jx_g q212 rfl))) (j_ao (hK.2.2.2.1 _ (jx_g q210 rfl))) (C.2.2.2.2.1 _ q227)
    (g := F0 (zm Z) pc ls (.int r :: .int k :: .int n :: st)) rfl (by rw [C.2.1]; exact hdg) (n := n) (k := k) (q := r) (rest := st) rfl hn hk hr (by omega) (by omega) (by show r.toNatClampNeg * 4 ≤ _; omega) (by omega) rfl rfl (by show _ ≤ (zR Z).cells; omega) (by show _ ≤ (zR Z).slots; omega)
  rw [hname] at e1
  rw [hname2] at e2
  rw [hname3] at e3
  obtain ⟨m1, m2, m3⟩ := j_nmR hK
  cases e1.symm.trans m3
  cases e2.symm.trans m2
  cases e3.symm.trans m1
  have hTs : (T.setVm vm₁).heap = H := hT
  obtain ⟨f1, f2, f3, f4⟩ := fill3_facts (T.setVm vm₁) (gA Z.2.1 7) (gA Z.2.1 6) (gA Z.2.1 0) n.toNatClampNeg k.toNatClampNeg r.toNatClampNeg (defaultValue .int) n.toNatClampNeg
  have fi := fun j hj => fill3_inner (T.setVm vm₁) (gA Z.2.1 7) (gA Z.2.1 6) (gA Z.2.1 0) n.toNatClampNeg k.toNatClampNeg r.toNatClampNeg (defaultValue .int) n.toNatClampNeg j hj
  have fo := fun (a : Addr) (ha : a < (T.setVm vm₁).heap.size) => fill3_old (T.setVm vm₁) (gA Z.2.1 7) (gA Z.2.1 6) (gA Z.2.1 0) n.toNatClampNeg k.toNatClampNeg r.toNatClampNeg (defaultValue .int) ha n.toNatClampNeg
  rw [hTs] at f1 f2 fi fo
  generalize hF : fill3 (T.setVm vm₁) (gA Z.2.1 7) (gA Z.2.1 6) (gA Z.2.1 0) n.toNatClampNeg k.toNatClampNeg r.toNatClampNeg (defaultValue .int) n.toNatClampNeg = F at X' step f1 f2 f3 f4 fi fo
  have hKK := hK9 H.size (j_above hW hK)
  clear hK9
  generalize hN : n.toNatClampNeg = N at *
  generalize hM : k.toNatClampNeg = M at *
  generalize hLL : r.toNatClampNeg = L at *
  have hn9 := X'.same.2.2.2.2.1
  have hx6 := X'.same.2.2.2.2.2
  have hx2 := X'.same.2.1
  have hFh : (F.setVm (zs Z).vm).heap = F.heap := rfl
  rw [hFh] at hn9 hx6 hx2
  have hsz : ∀ a : Nat, a < (zs Z).heap.size → (F.heap[a]?).map (fun c => c.slots.size) = ((zs Z).heap[a]?).map (fun c => c.slots.size) := by
    intro a ha
    obtain ⟨c', q1, -, q3, -⟩ := hx6 a _ (Array.getElem?_eq_getElem ha)
    rw [q1, Array.getElem?_eq_getElem ha]
    simp [q3]
  have hn2 := jsl_split C.2.2.2.2.2.2.2.2.1 hx2 hsz
  have hn3 : jsl F.heap (zs Z).heap.size ≤ n1 + N + N * (M + M * L) := hn9
  have w1 := hW.2.1
  have hW1 : jW Z.2.1 (jcube S H.size N M L) F.heap := by
    refine ⟨fun q e he => ?_, by omega, fun q hq => ?_, ?_, ?_, hW.2.2.2.2.2⟩
    · have he : (if q = H.size then some (7, .inr (.inl (N, fun i => some (H.size + 1 + i * (1 + M))))) else if H.size < q ∧ q ≤ H.size + N * (1 + M) then (if (q - H.size - 1) % (1 + M) = 0 then some (6, .inr (.inl (M, fun i => some (q + 1 + i)))) else some (0, .inl (L, fun _ => 0))) else S.1 q) = some e := he
      by_cases c1 : q = H.size
      · rw [if_pos c1] at he
        cases he
        refine Or.inl ⟨(show (7 : Nat) < 10 by decide), ?_, by omega⟩
        show F.heap[q]? = _
        rw [c1, f2, j_outR]
      · rw [if_neg c1] at he
        by_cases c2 : H.size < q ∧ q ≤ H.size + N * (1 + M)
        · rw [if_pos c2] at he
          have hdm := Nat.div_add_mod (q - H.size - 1) (1 + M)
          have hlt : (q - H.size - 1) / (1 + M) < N := by
            rw [Nat.div_lt_iff_lt_mul (by omega)]
            omega
          obtain ⟨i1, i2⟩ := fi _ hlt
          rw [Nat.mul_comm] at hdm
          by_cases c3 : (q - H.size - 1) % (1 + M) = 0
          · rw [if_pos c3] at he
            cases he
            refine Or.inl ⟨(show (6 : Nat) < 10 by decide), ?_, by omega⟩
            show F.heap[q]? = _
            rw [show H.size + 1 + (q - H.size - 1) / (1 + M) * (1 + M) = q by omega, j_outerC, j_outR] at i1
            rw [i1]
            simp only [Nat.mul_one]
          · rw [if_neg c3] at he
            cases he
            refine Or.inl ⟨(show (0 : Nat) < 10 by decide), ?_, by omega⟩
            show F.heap[q]? = _
            have hml := Nat.mod_lt (q - H.size - 1) (show 0 < 1 + M by omega)
            have h3 := i2 ((q - H.size - 1) % (1 + M) - 1) (by omega)
            rw [show H.size + 1 + (q - H.size - 1) / (1 + M) * (1 + M) + 1 + ((q - H.size - 1) % (1 + M) - 1) = q by omega, j_innI] at h3
            exact h3
        · rw [if_neg c2] at he
          rcases hW.1 q e he with ⟨q0, q1, q2⟩ | q9
          · exact Or.inl ⟨q0, q1.kept (fo q q1.lt), q2⟩
          · exact Or.inr q9
    · exact (fo q (by show q < H.size; omega)).trans (hW.2.2.1 q hq)
    · show F.heap.size + (S.2.1 - _) ≤ _
      omega
    · show jsl F.heap _ + (S.2.2.1 - _) ≤ _
      omega
  obtain ⟨t9, st9, q9⟩ := kk _ H.size hKK F.heap locs _ _ ls hW1 (by omega) hL hls F rfl X'
  rw [show T.heap.size = H.size by rw [hT]] at step
  exact ⟨t9, step t9 st9, q9⟩
end JMN

