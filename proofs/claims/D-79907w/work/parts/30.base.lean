/-! BASE: worlds of the kit as ONE map from addresses to typed cells; predicates of Java steps over it; the rows of the machine over them -/
abbrev jE : Type := Nat × ((Nat × (Nat → Int32)) ⊕ ((Nat × (Nat → Option Nat)) ⊕ (Nat → Value)))
abbrev jM : Type := Nat → Option jE
abbrev jS : Type := jM × Nat × Nat × (Nat → Value)
/-- class numbers, slots, array class numbers; first own address, the heap's and the slots' limit, the start's heap, the statics' values -/
abbrev jG : Type := (Nat → ClassId) × (Nat → Nat → Nat) × (Nat → ClassId) × Nat × Nat × Nat × Heap × (Nat → Value) × jM
def gC (G : jG) : Nat → ClassId := G.1
def gI (G : jG) : Nat → Nat → Nat := G.2.1
def gA (G : jG) : Nat → ClassId := G.2.2.1
def gz (G : jG) : Nat := G.2.2.2.1
def gL (G : jG) : Nat := G.2.2.2.2.1
def gT (G : jG) : Nat := G.2.2.2.2.2.1
def gH (G : jG) : Heap := G.2.2.2.2.2.2.1
def gV (G : jG) : Nat → Value := G.2.2.2.2.2.2.2.1
/-- what is there from the start, and only read -/
def gM (G : jG) : jM := G.2.2.2.2.2.2.2.2
def jD (G : jG) : va_G := (gC G, gI G)
def jAt (G : jG) (a : Nat) (e : jE) (H : Heap) : Prop := match e.2 with
  | .inl x => H[a]? = some (vp_cell (gA G e.1) (x.1, .inl x.2))
  | .inr (.inl x) => H[a]? = some (vp_cell (gA G e.1) (x.1, .inr (.inr (.inr (.inr x.2)))))
  | .inr (.inr V) => ∃ r : vw_C, jcl[e.1]? = some r ∧ t_OB a (gC G e.1) r.2.2 (gI G e.1) H V
def jrw (e : jE) : Prop := match e.2 with
  | .inl _ => e.1 < 10
  | .inr (.inl _) => e.1 < 10
  | .inr (.inr _) => e.1 < 9
def jsl (H : Heap) (z : Nat) : Nat := ((H.toList.drop z).map (fun c => c.slots.size)).sum
/-- a cell that is only read, at the start's heap -/
def jro (G : jG) (U : State) (a : Nat) (e : jE) : Prop := match e.2 with
  | .inl x => ∃ (cell : Cell) (ty : FieldType), jty[e.1]? = some ty ∧ (gH G)[a]? = some cell ∧ U.isArrayOf cell ty ∧ cell.vm ≠ .unknown ∧ x.1 ≤ cell.slots.size ∧ cell.slots.size.toInt32 = Int32.ofNat x.1 ∧ ∀ j : Nat, j < x.1 → cell.slots[j]? = some (.int (x.2 j))
  | .inr (.inl x) => ∃ (cell : Cell) (ty : FieldType), jty[e.1]? = some ty ∧ (gH G)[a]? = some cell ∧ U.isArrayOf cell ty ∧ cell.vm ≠ .unknown ∧ x.1 ≤ cell.slots.size ∧ cell.slots.size.toInt32 = Int32.ofNat x.1 ∧ ∀ j : Nat, j < x.1 → cell.slots[j]? = some (va_rf (x.2 j))
  | .inr (.inr V) => ∃ (r : vw_C) (cell : Cell), jcl[e.1]? = some r ∧ (gH G)[a]? = some cell ∧ cell.cls = gC G e.1 ∧ cell.vm.isStatics = false ∧ cell.vm ≠ .unknown ∧ ∀ k : Nat, k < r.2.2 → cell.slots[gI G e.1 k]? = some (V k)
def jW (G : jG) (S : jS) (H : Heap) : Prop :=
  (∀ (a : Nat) (e : jE), S.1 a = some e → (jrw e ∧ jAt G a e H ∧ gz G ≤ a) ∨ (¬ jrw e ∧ gM G a = some e)) ∧ gz G ≤ H.size ∧ (∀ q : Nat, q < gz G → H[q]? = (gH G)[q]?) ∧ H.size + S.2.1 ≤ gL G ∧ jsl H (gz G) + S.2.2.1 ≤ gT G ∧ S.2.2.2 = gV G
/-- what a machine's throw asks of Throwable's two statics -/
def jKx (G : jG) (U : State) : Prop := (∃ r : Option Nat, gV G 4 = va_rf r) ∧ (∃ r : Option Nat, gV G 5 = va_rf r) ∧ vx_L Bundle.tN "UNASSIGNED_STACK" Bundle.steD (fun q => gz G ≤ q) U (gH G) ∧ vx_L Bundle.tN "SUPPRESSED_SENTINEL" Bundle.listD (fun q => gz G ≤ q) U (gH G)
/-- what the tables, the statics and the read-only cells are, all through a run -/
def jK (G : jG) (U : State) : Prop :=
  (∀ (c : Nat) (q : vw_C), jcl[c]? = some q → (c < 9 ∨ c = 14) → u_Kn U q.1 q.2.1 q.2.2 (gC G c) (gI G c)) ∧ (∀ (c : Nat) (q : vw_C), jcl[c]? = some q → U.vm.findClass q.1 = some (gC G c)) ∧ (∀ (k : Nat) (ty : FieldType), jty[k]? = some ty → k < 10 → ArrOfT U (gA G k) ty ∧ va_RA U (gA G k) ty) ∧
  (∀ w ∈ jxw, va_Nw w U) ∧ ((∀ q ∈ jnc, va_Nc q.1 q.2 U) ∧ jKx G U) ∧ (∀ (i : Nat) (q : String × String × String), jst[i]? = some q → va_Z q.1 q.2.1 q.2.2 (gV G i) (fun q => gz G ≤ q) U (gH G)) ∧
  (∀ (i : Nat) (q : String × Nat × String), jstr[i]? = some q → ∃ a : Nat, gV G (20 + i) = .ref a ∧ vk_R q.1 q.2.1 q.2.2 a U) ∧ ∀ (a : Nat) (e : jE), gM G a = some e → ¬ jrw e ∧ a < gz G ∧ jro G U a e
def jset (S : jS) (a : Nat) (e : jE) : jS := (va_up S.1 a (some e), S.2)
theorem jAt.kept {G : jG} {a : Nat} {e : jE} {H H1 : Heap} (h : jAt G a e H) (hq : H1[a]? = H[a]?) : jAt G a e H1 := by
  obtain ⟨k, x | x | V⟩ := e
  · exact hq.trans h
  · exact hq.trans h
  · obtain ⟨r, h1, h2⟩ := h
    exact ⟨r, h1, h2.kept hq⟩
theorem jAt.lt {G : jG} {a : Nat} {e : jE} {H : Heap} (h : jAt G a e H) : a < H.size := by
  obtain ⟨k, x | x | V⟩ := e
  · exact (Array.getElem?_eq_some_iff.mp h).1
  · exact (Array.getElem?_eq_some_iff.mp h).1
  · obtain ⟨r, h1, cell, h2, -⟩ := h
    exact (Array.getElem?_eq_some_iff.mp h2).1
theorem jsl_sizes {H H1 : Heap} {z : Nat} (hz : H1.size = H.size) (h : ∀ a : Nat, (H1[a]?).map (fun c => c.slots.size) = (H[a]?).map (fun c => c.slots.size)) : jsl H1 z = jsl H z := by
  have e : H1.toList.map (fun c => c.slots.size) = H.toList.map (fun c => c.slots.size) := by
    apply List.ext_getElem?
    intro i
    rw [List.getElem?_map, List.getElem?_map, Array.getElem?_toList, Array.getElem?_toList]
    exact h i
  unfold jsl
  rw [List.map_drop, List.map_drop, e]
theorem jsl_push {H : Heap} {z : Nat} (hz : z ≤ H.size) (x : Cell) : jsl (H.push x) z = jsl H z + x.slots.size := by
  unfold jsl
  rw [Array.toList_push, List.drop_append_of_le_length (by simpa using hz), List.map_append, List.sum_append]
  simp
theorem jsl_one {H H1 : Heap} {z a : Nat} {x y : Cell} (hz : H1.size = H.size) (h0 : H[a]? = some x) (h1 : H1[a]? = some y) (hs : y.slots.size = x.slots.size) (ho : ∀ q : Nat, q ≠ a → H1[q]? = H[q]?) : jsl H1 z = jsl H z := by
  refine jsl_sizes hz fun q => ?_
  by_cases hq : q = a
  · subst hq
    rw [h0, h1]
    simp [hs]
  · rw [ho q hq]
theorem jsl_split {H0 H : Heap} {z : Nat} (hz : z ≤ H0.size) (hle : H0.size ≤ H.size) (h : ∀ a : Nat, a < H0.size → (H[a]?).map (fun c => c.slots.size) = (H0[a]?).map (fun c => c.slots.size)) : jsl H H0.size + jsl H0 z = jsl H z := by
  have e : (H.toList.map (fun c => c.slots.size)).take H0.size = H0.toList.map (fun c => c.slots.size) := by
    apply List.ext_getElem?
    intro i
    rw [List.getElem?_take]
    by_cases hi : i < H0.size
    · rw [if_pos hi, List.getElem?_map, List.getElem?_map, Array.getElem?_toList, Array.getElem?_toList]
      exact h i hi
    · rw [if_neg hi]
      symm
      rw [List.getElem?_eq_none_iff]
      simpa using Nat.le_of_not_lt hi
  unfold jsl
  rw [List.map_drop, List.map_drop, List.map_drop, ← e]
  generalize hl : H.toList.map (fun c => c.slots.size) = L
  have hL : H0.size ≤ L.length := by rw [← hl]; simpa using hle
  rw [List.drop_take]
  have h2 : L.drop z = (L.drop z).take (H0.size - z) ++ (L.drop z).drop (H0.size - z) := (List.take_append_drop _ _).symm
  rw [List.drop_drop] at h2
  have h3 : z + (H0.size - z) = H0.size := by omega
  rw [h3] at h2
  rw [h2, List.sum_append]
  have h4 : ((L.drop z).take (H0.size - z) ++ L.drop H0.size).take (H0.size - z) = (L.drop z).take (H0.size - z) := by
    rw [← h2]
  rw [Nat.add_comm, h4]
section JB
variable {p : Program} {l : Launch} {e : Env} {R : Room} {s : State} {m : MethodId} {args : Array Value} {below : List Frame} {meth : Method} {c : Code} {H : Heap} {locs : List Loc} {cells slots : Nat} {Q : State → Prop} {G : jG}
/-- a world with one cell changed -/
theorem jW.set {S : jS} {H1 : Heap} {a : Nat} {e0 e1 : jE} {x y : Cell} (hW : jW G S H) (he : S.1 a = some e0) (h1 : jAt G a e1 H1) (hr : jrw e1) (hz : H1.size = H.size) (ho : ∀ q : Nat, q ≠ a → H1[q]? = H[q]?) (hx : H[a]? = some x) (hy : H1[a]? = some y) (hs : y.slots.size = x.slots.size) (hw : jrw e0) : jW G (jset S a e1) H1 := by
  obtain ⟨g1, g2, g3, g4, g5, g6⟩ := hW
  have hza : gz G ≤ a := by
    rcases g1 a e0 he with q | q
    · exact q.2.2
    · exact absurd hw q.1
  refine ⟨fun b f hb => ?_, by rw [hz]; exact g2, fun q hq => (ho q (by omega)).trans (g3 q hq), by rw [hz]; exact g4, by rw [jsl_one hz hx hy hs ho]; exact g5, g6⟩
  by_cases hba : b = a
  · subst hba
    have e2 : e1 = f := by
      have h : va_up S.1 b (some e1) b = some f := hb
      simpa [va_up] using h
    subst e2
    exact Or.inl ⟨hr, h1, hza⟩
  · have e2 : S.1 b = some f := by
      have h : va_up S.1 a (some e1) b = some f := hb
      simpa [va_up, hba] using h
    rcases g1 b f e2 with ⟨q0, q1, q2⟩ | q
    · exact Or.inl ⟨q0, q1.kept (ho b hba), q2⟩
    · exact Or.inr q
/-- a world with one cell more -/
theorem jW.push {S : jS} {x : Cell} {e1 : jE} {k : Nat} (hW : jW G S H) (hr : jrw e1) (h1 : jAt G H.size e1 (H.push x)) (hc : 1 ≤ S.2.1) (hn : x.slots.size ≤ k) (hk : k ≤ S.2.2.1) : jW G (va_up S.1 H.size (some e1), S.2.1 - 1, S.2.2.1 - k, S.2.2.2) (H.push x) := by
  obtain ⟨g1, g2, g3, g4, g5, g6⟩ := hW
  have ho : ∀ q : Nat, q < H.size → (H.push x)[q]? = H[q]? := fun q hq => by rw [Array.getElem?_push, if_neg (Nat.ne_of_lt hq)]
  refine ⟨fun b f hb => ?_, by rw [Array.size_push]; omega, fun q hq => (ho q (by omega)).trans (g3 q hq), ?_, ?_, g6⟩
  · by_cases hba : b = H.size
    · subst hba
      have e2 : e1 = f := by
        have h : va_up S.1 H.size (some e1) H.size = some f := hb
        simpa [va_up] using h
      subst e2
      exact Or.inl ⟨hr, h1, g2⟩
    · have e2 : S.1 b = some f := by
        have h : va_up S.1 H.size (some e1) b = some f := hb
        simpa [va_up, hba] using h
      rcases g1 b f e2 with ⟨q0, q1, q2⟩ | q
      · exact Or.inl ⟨q0, q1.kept (ho b q1.lt), q2⟩
      · exact Or.inr q
  · show (H.push x).size + (S.2.1 - 1) ≤ gL G
    rw [Array.size_push]
    omega
  · show jsl (H.push x) (gz G) + (S.2.2.1 - k) ≤ gT G
    rw [jsl_push g2]
    omega
theorem jW.fresh {S : jS} (hW : jW G S H) (hK : jK G s) : S.1 H.size = none := by
  cases h : S.1 H.size with
  | none => rfl
  | some e =>
    rcases hW.1 _ _ h with ⟨-, q, -⟩ | ⟨-, q⟩
    · have := q.lt
      omega
    · have h1 := (hK.2.2.2.2.2.2.2 _ _ q).2.1
      have h2 := hW.2.1
      omega
theorem j_rw {S : jS} {a : Nat} {e : jE} (hW : jW G S H) (h : S.1 a = some e) (hr : jrw e) : jAt G a e H ∧ gz G ≤ a := by
  rcases hW.1 a e h with q | q
  · exact q.2
  · exact absurd hr q.1
theorem j_obj {S : jS} {a c : Nat} {V : Nat → Value} (hW : jW G S H) (hK : jK G s) (h : S.1 a = some (c, .inr (.inr V))) : ∃ (r : vw_C) (cell : Cell), jcl[c]? = some r ∧ H[a]? = some cell ∧ cell.cls = gC G c ∧ cell.vm.isStatics = false ∧ cell.vm ≠ .unknown ∧ (c < 9 → cell.vm = .none ∧ gz G ≤ a) ∧ ∀ k : Nat, k < r.2.2 → cell.slots[gI G c k]? = some (V k) := by
  rcases hW.1 a _ h with ⟨-, ⟨r, q0, cell, q1, q2, q3, q4⟩, hz⟩ | ⟨hn, q⟩
  · exact ⟨r, cell, q0, q1, q2, (by rw [q3]; rfl), (by rw [q3]; exact fun h => VmData.noConfusion h), fun _ => ⟨q3, hz⟩, q4⟩
  · obtain ⟨-, hlt, r, cell, q0, q1, q2, q3, q5, q4⟩ := hK.2.2.2.2.2.2.2 _ _ q
    exact ⟨r, cell, q0, by rw [hW.2.2.1 a hlt]; exact q1, q2, q3, q5, fun h9 => absurd h9 hn, q4⟩
theorem j_arrI {S : jS} {a t n : Nat} {f : Nat → Int32} (hW : jW G S H) (hK : jK G s) (h : S.1 a = some (t, .inl (n, f))) : ∃ (cell : Cell) (ty : FieldType), jty[t]? = some ty ∧ H[a]? = some cell ∧ s.isArrayOf cell ty ∧ cell.vm ≠ .unknown ∧ n ≤ cell.slots.size ∧ cell.slots.size.toInt32 = Int32.ofNat n ∧ ∀ j : Nat, j < n → cell.slots[j]? = some (.int (f j)) := by
  rcases hW.1 a _ h with ⟨hr, q, hz⟩ | ⟨hn, q⟩
  · have ht : t < jty.length := Nat.lt_trans (show t < 10 from hr) (by decide)
    have hty : jty[t]? = some jty[t] := List.getElem?_eq_getElem ht
    exact ⟨_, _, hty, q, (hK.2.2.1 t _ hty hr).1 n (fun j => .int (f j)), (fun h => by cases h), (by rw [vp_cell_i, arrV_size]; exact Nat.le_refl _), (by rw [vp_cell_i, arrV_size] <;> rfl), fun j hj => by rw [vp_cell_i, arrV_read _ _ hj]⟩
  · obtain ⟨-, hlt, cell, ty, q0, q1, q2⟩ := hK.2.2.2.2.2.2.2 _ _ q
    exact ⟨cell, ty, q0, by rw [hW.2.2.1 a hlt]; exact q1, q2⟩
theorem j_arrR {S : jS} {a t n : Nat} {f : Nat → Option Nat} (hW : jW G S H) (hK : jK G s) (h : S.1 a = some (t, .inr (.inl (n, f)))) : ∃ (cell : Cell) (ty : FieldType), jty[t]? = some ty ∧ H[a]? = some cell ∧ s.isArrayOf cell ty ∧ cell.vm ≠ .unknown ∧ n ≤ cell.slots.size ∧ cell.slots.size.toInt32 = Int32.ofNat n ∧ ∀ j : Nat, j < n → cell.slots[j]? = some (va_rf (f j)) := by
  rcases hW.1 a _ h with ⟨hr, q, hz⟩ | ⟨hn, q⟩
  · have ht : t < jty.length := Nat.lt_trans (show t < 10 from hr) (by decide)
    have hty : jty[t]? = some jty[t] := List.getElem?_eq_getElem ht
    exact ⟨_, _, hty, q, (hK.2.2.1 t _ hty hr).1 n (fun j => va_rf (f j)), (fun h => by cases h), (by rw [vp_cell_q, arrV_size]; exact Nat.le_refl _), (by rw [vp_cell_q, arrV_size] <;> rfl), fun j hj => by rw [vp_cell_q, arrV_read _ _ hj]⟩
  · obtain ⟨-, hlt, cell, ty, q0, q1, q2⟩ := hK.2.2.2.2.2.2.2 _ _ q
    exact ⟨cell, ty, q0, by rw [hW.2.2.1 a hlt]; exact q1, q2⟩
/-- cells and slots reckoned anew: by the heap itself -/
theorem W.tight {z : Nat} {g : JFrame} (hz : z ≤ s.heap.size) (kk : ∀ k n : Nat, k + s.heap.size = H.size → n + jsl s.heap z = jsl H z → W p l e R s m args below meth c H locs k n Q g) : W p l e R s m args below meth c H locs cells slots Q g := by
  intro T hT X
  obtain ⟨h1, h2, h3, h4, h5, h6⟩ := X.same
  have hH : (T.setVm s.vm).heap = H := hT
  rw [hH] at h2 h3 h4 h5 h6
  have hsz : ∀ a : Nat, a < s.heap.size → (H[a]?).map (fun c => c.slots.size) = (s.heap[a]?).map (fun c => c.slots.size) := by
    intro a ha
    obtain ⟨c', q1, -, q3, -⟩ := h6 a _ (Array.getElem?_eq_getElem ha)
    rw [q1, Array.getElem?_eq_getElem ha]
    simp [q3]
  refine kk (H.size - s.heap.size) (jsl H s.heap.size) (by omega) (jsl_split hz h2 hsz) T hT { X with same := ⟨h1, by rw [hH]; exact h2, by rw [hH]; omega, by rw [hH]; exact h4, by rw [hH]; exact Nat.le_refl _, by rw [hH]; exact h6⟩ }
end JB
/-! a method's run: machine, globals, number of locals, aim -/
abbrev jX : Type := Program × Launch × Env × Room × State × MethodId × Array Value × List Frame × Method × Code
abbrev jZ : Type := jX × jG × Nat × (State → Prop)
def jwW (X : jX) (H : Heap) (locs : List Loc) (cells slots : Nat) (Q : State → Prop) (g : JFrame) : Prop := W X.1 X.2.1 X.2.2.1 X.2.2.2.1 X.2.2.2.2.1 X.2.2.2.2.2.1 X.2.2.2.2.2.2.1 X.2.2.2.2.2.2.2.1 X.2.2.2.2.2.2.2.2.1 X.2.2.2.2.2.2.2.2.2 H locs cells slots Q g
abbrev zp (Z : jZ) : Program := Z.1.1
abbrev zl (Z : jZ) : Launch := Z.1.2.1
abbrev ze (Z : jZ) : Env := Z.1.2.2.1
abbrev zR (Z : jZ) : Room := Z.1.2.2.2.1
abbrev zs (Z : jZ) : State := Z.1.2.2.2.2.1
abbrev zm (Z : jZ) : MethodId := Z.1.2.2.2.2.2.1
abbrev za (Z : jZ) : Array Value := Z.1.2.2.2.2.2.2.1
abbrev zb (Z : jZ) : List Frame := Z.1.2.2.2.2.2.2.2.1
abbrev zt (Z : jZ) : Method := Z.1.2.2.2.2.2.2.2.2.1
abbrev zc (Z : jZ) : Code := Z.1.2.2.2.2.2.2.2.2.2
/-- at pc with these locals and this stack over the abstract world S the machine comes to its aim -/
def jJ (Z : jZ) (S : jS) (lv : List (Nat × Value)) (pc : Nat) (st : List Value) : Prop :=
  ∀ (H : Heap) (locs : List Loc) (cells slots : Nat) (ls : Array Slot), jW Z.2.1 S H → (zs Z).heap.size ≤ H.size → (∀ q ∈ locs, gz Z.2.1 ≤ q.base) → lv_has ls Z.2.2.1 lv →
    W (zp Z) (zl Z) (ze Z) (zR Z) (zs Z) (zm Z) (za Z) (zb Z) (zt Z) (zc Z) H locs cells slots Z.2.2.2 (F0 (zm Z) pc ls st)
/-- what holds all through a method's body -/
def jC (Z : jZ) (d : Nat) (cc : ByteArray) (own : String) (ret : Option FieldType) (y : MethodName) : Prop :=
  (zp Z).tables.exec = Jvm.exec ∧ (zc Z).code = cc ∧ (zc Z).maxLocals = Z.2.2.1 ∧ (zs Z).vm.findClass own = some (zm Z).cls ∧ (∀ w ∈ lw_all, w.before (za Z) (zs Z) = true) ∧ (zt Z).sig.returnType = ret ∧ (zt Z).locks = false ∧ jK Z.2.1 (zs Z) ∧
  gz Z.2.1 ≤ (zs Z).heap.size ∧ (∀ q : Nat, q < gz Z.2.1 → (zs Z).heap[q]? = (gH Z.2.1)[q]?) ∧ (zR Z).cells = gL Z.2.1 - (zs Z).heap.size ∧ (zR Z).slots = gT Z.2.1 - jsl (zs Z).heap (gz Z.2.1) ∧ d ≤ (zR Z).frames ∧ 64 * d ≤ (zR Z).locals ∧ (zt Z).name = y.name ∧ (zl Z).stackTraces = false
