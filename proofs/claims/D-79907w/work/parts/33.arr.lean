section JA
variable {Z : jZ} {d : Nat} {cc : ByteArray} {own : String} {ret : Option FieldType} {y : MethodName} {pc : Nat} {S : jS} {lv : List (Nat × Value)} {st : List Value}
theorem j_in {cell : Cell} {n : Nat} {i : Int32} (hs : n ≤ cell.slots.size) (h : vp_in i n) (hn : cell.slots.size.toInt32 = Int32.ofNat n) : i.toNatClampNeg < n := Nat.not_le.mp fun q => h (Or.inr q)
theorem j_nin {cell : Cell} {n : Nat} {i : Int32} (hs : n ≤ cell.slots.size) (h : vp_in i n) : ¬ (i < 0 ∨ cell.slots.size ≤ i.toNatClampNeg) := by
  rintro (q | q)
  · exact h (Or.inl q)
  · exact h (Or.inr (Nat.le_trans hs q))
theorem j_lt {n : Nat} {i : Int32} (h : vp_in i n) : i.toNatClampNeg < n := Nat.not_le.mp fun q => h (Or.inr q)
theorem j_inI {cA : ClassId} {n : Nat} {f : Nat → Int32} {i : Int32} (h : vp_in i n) : ¬ (i < 0 ∨ (vp_cell cA (n, .inl f)).slots.size ≤ i.toNatClampNeg) := by
  show ¬ (i < 0 ∨ (arrV _ _ _).slots.size ≤ _)
  rw [arrV_size]
  exact h
theorem j_inR {cA : ClassId} {n : Nat} {f : Nat → Option Nat} {i : Int32} (h : vp_in i n) : ¬ (i < 0 ∨ (vp_cell cA (n, .inr (.inr (.inr (.inr f))))).slots.size ≤ i.toNatClampNeg) := by
  show ¬ (i < 0 ∨ (arrV _ _ _).slots.size ≤ _)
  rw [arrV_size]
  exact h
theorem j_arI {G : jG} {s : State} (hK : jK G s) {t : Nat} {ty : FieldType} (ht : jty[t]? = some ty) (h : t < 10) (n : Nat) (f : Nat → Int32) : s.isArrayOf (vp_cell (gA G t) (n, .inl f)) ty := (hK.2.2.1 t ty ht h).1 n (fun j => .int (f j))
theorem j_arR {G : jG} {s : State} (hK : jK G s) {t : Nat} {ty : FieldType} (ht : jty[t]? = some ty) (h : t < 10) (n : Nat) (f : Nat → Option Nat) : s.isArrayOf (vp_cell (gA G t) (n, .inr (.inr (.inr (.inr f))))) ty := (hK.2.2.1 t ty ht h).1 n (fun j => va_rf (f j))
theorem jr_iald (C : jC Z d cc own ret y) (pc' : Nat) (hp : pc + 1 = pc') (hdg : decode cc pc = .ok (.iaload, 1)) {a : Nat} {i : Int32} {K : Int32 → Prop} (h : jal 0 S a i K) (kk : ∀ v : Int32, K v → jJ Z S lv pc' (.int v :: st)) : jJ Z S lv pc (.int i :: .ref a :: st) := by
  subst hp
  intro H locs cells slots ls hW hz hL hls
  obtain ⟨n, f, h1, h2, h3⟩ := h
  obtain ⟨cell, ty, q0, q1, q2, q3, q4, q5, q6⟩ := j_arrI hW C.2.2.2.2.2.2.2.1 h1
  cases q0
  exact W.iald C.1 C.2.1 q1 q2 q3 (j_nin q4 h2) (q6 _ (j_lt h2)) rfl rfl hdg (kk _ h3 H locs cells slots ls hW hz hL hls)
theorem jr_bald (C : jC Z d cc own ret y) (pc' : Nat) (hp : pc + 1 = pc') (hdg : decode cc pc = .ok (.baload, 1)) {a : Nat} {i : Int32} {K : Int32 → Prop} (h : jal 1 S a i K) (kk : ∀ v : Int32, K v → jJ Z S lv pc' (.int v :: st)) : jJ Z S lv pc (.int i :: .ref a :: st) := by
  subst hp
  intro H locs cells slots ls hW hz hL hls
  obtain ⟨n, f, h1, h2, h3⟩ := h
  obtain ⟨cell, ty, q0, q1, q2, q3, q4, q5, q6⟩ := j_arrI hW C.2.2.2.2.2.2.2.1 h1
  cases q0
  exact W.bald C.1 C.2.1 q1 q2 q3 (j_nin q4 h2) (q6 _ (j_lt h2)) rfl rfl hdg (kk _ h3 H locs cells slots ls hW hz hL hls)
theorem jr_bald13 (C : jC Z d cc own ret y) (pc' : Nat) (hp : pc + 1 = pc') (hdg : decode cc pc = .ok (.baload, 1)) {a : Nat} {i : Int32} {K : Int32 → Prop} (h : jal 13 S a i K) (kk : ∀ v : Int32, K v → jJ Z S lv pc' (.int v :: st)) : jJ Z S lv pc (.int i :: .ref a :: st) := by
  subst hp
  intro H locs cells slots ls hW hz hL hls
  obtain ⟨n, f, h1, h2, h3⟩ := h
  obtain ⟨cell, ty, q0, q1, q2, q3, q4, q5, q6⟩ := j_arrI hW C.2.2.2.2.2.2.2.1 h1
  cases q0
  exact W.bald C.1 C.2.1 q1 q2 q3 (j_nin q4 h2) (q6 _ (j_lt h2)) rfl rfl hdg (kk _ h3 H locs cells slots ls hW hz hL hls)
theorem jr_zald (C : jC Z d cc own ret y) (pc' : Nat) (hp : pc + 1 = pc') (hdg : decode cc pc = .ok (.baload, 1)) {a : Nat} {i : Int32} {K : Int32 → Prop} (h : jal 3 S a i K) (kk : ∀ v : Int32, K v → jJ Z S lv pc' (.int v :: st)) : jJ Z S lv pc (.int i :: .ref a :: st) := by
  subst hp
  intro H locs cells slots ls hW hz hL hls
  obtain ⟨n, f, h1, h2, h3⟩ := h
  obtain ⟨cell, ty, q0, q1, q2, q3, q4, q5, q6⟩ := j_arrI hW C.2.2.2.2.2.2.2.1 h1
  cases q0
  exact W.zald C.1 C.2.1 q1 q2 q3 (j_nin q4 h2) (q6 _ (j_lt h2)) rfl rfl hdg (kk _ h3 H locs cells slots ls hW hz hL hls)
theorem jr_sald (C : jC Z d cc own ret y) (pc' : Nat) (hp : pc + 1 = pc') (hdg : decode cc pc = .ok (.saload, 1)) {a : Nat} {i : Int32} {K : Int32 → Prop} (h : jal 2 S a i K) (kk : ∀ v : Int32, K v → jJ Z S lv pc' (.int v :: st)) : jJ Z S lv pc (.int i :: .ref a :: st) := by
  subst hp
  intro H locs cells slots ls hW hz hL hls
  obtain ⟨n, f, h1, h2, h3⟩ := h
  obtain ⟨cell, ty, q0, q1, q2, q3, q4, q5, q6⟩ := j_arrI hW C.2.2.2.2.2.2.2.1 h1
  cases q0
  exact W.sald C.1 C.2.1 q1 q2 q3 (j_nin q4 h2) (q6 _ (j_lt h2)) rfl rfl hdg (kk _ h3 H locs cells slots ls hW hz hL hls)
theorem j_arrW {G : jG} {H H1 : Heap} {a t : Nat} {n j : Nat} {f : Nat → Int32} {x : Int32} (hW : jW G S H) (h9 : t < 10) (h1 : S.1 a = some (t, .inl (n, f))) (e1 : H1[a]? = some ((vp_cell (gA G t) (n, .inl f)).setSlot j (.int x))) (e2 : H1.size = H.size) (e3 : ∀ q : Nat, q ≠ a → H1[q]? = H[q]?) : jW G (jset S a (t, .inl (n, upd f j x))) H1 := by
  have e4 : H1[a]? = some (vp_cell (gA G t) (n, .inl (upd f j x))) := by
    rw [e1, vp_cell_i, vp_cell_i, arrV_store]
    congr 2
    funext q
    by_cases hq : q = j
    · subst hq
      simp [updV, upd]
    · simp [updV, upd, hq]
  exact jW.set hW h1 e4 h9 e2 e3 ((j_rw hW h1 h9).1) e4 (by rw [vp_cell_i, vp_cell_i, arrV_size, arrV_size]) h9
theorem j_refW {G : jG} {H H1 : Heap} {a t : Nat} {n j : Nat} {f : Nat → Option Nat} {x : Option Nat} (hW : jW G S H) (h9 : t < 10) (h1 : S.1 a = some (t, .inr (.inl (n, f)))) (e1 : H1[a]? = some ((vp_cell (gA G t) (n, .inr (.inr (.inr (.inr f))))).setSlot j (va_rf x))) (e2 : H1.size = H.size) (e3 : ∀ q : Nat, q ≠ a → H1[q]? = H[q]?) : jW G (jset S a (t, .inr (.inl (n, va_up f j x)))) H1 := by
  have e4 : H1[a]? = some (vp_cell (gA G t) (n, .inr (.inr (.inr (.inr (va_up f j x)))))) := by
    rw [e1, vp_cell_q, vp_cell_q, arrV_store]
    congr 2
    funext q
    by_cases hq : q = j
    · subst hq
      simp [updV, va_up]
    · simp [updV, va_up, hq]
  exact jW.set hW h1 e4 h9 e2 e3 ((j_rw hW h1 h9).1) e4 (by rw [vp_cell_q, vp_cell_q, arrV_size, arrV_size]) h9
theorem jr_iast (C : jC Z d cc own ret y) (pc' : Nat) (hp : pc + 1 = pc') (hdg : decode cc pc = .ok (.iastore, 1)) {a : Nat} {i x : Int32} {K : jS → Prop} (h : jas 0 S a i x K) (kk : ∀ S1 : jS, K S1 → jJ Z S1 lv pc' st) : jJ Z S lv pc (.int x :: .int i :: .ref a :: st) := by
  subst hp
  intro H locs cells slots ls hW hz hL hls
  obtain ⟨n, f, h1, h2, h3⟩ := h
  have hja := j_rw hW h1 (show (0 : Nat) < 10 by decide)
  exact W.iast C.1 C.2.1 hja.1 (j_arI C.2.2.2.2.2.2.2.1 (t := 0) rfl (by decide) n f) (fun q => by cases q) (j_inI h2) rfl rfl hdg fun H1 e1 e2 e3 => kk _ h3 H1 _ cells slots ls (j_arrW hW (by decide) h1 e1 e2 e3) (by rw [e2]; exact hz) (fun q hq => (List.mem_append.mp hq).elim (hL q) (fun hq => by rw [List.mem_singleton.mp hq]; exact hja.2)) hls
theorem jr_bast (C : jC Z d cc own ret y) (pc' : Nat) (hp : pc + 1 = pc') (hdg : decode cc pc = .ok (.bastore, 1)) {a : Nat} {i x : Int32} {K : jS → Prop} (h : jas 1 S a i x K) (kk : ∀ S1 : jS, K S1 → jJ Z S1 lv pc' st) : jJ Z S lv pc (.int x :: .int i :: .ref a :: st) := by
  subst hp
  intro H locs cells slots ls hW hz hL hls
  obtain ⟨n, f, h1, h2, h3⟩ := h
  have hja := j_rw hW h1 (show (1 : Nat) < 10 by decide)
  exact W.bast C.1 C.2.1 hja.1 (j_arI C.2.2.2.2.2.2.2.1 (t := 1) rfl (by decide) n f) (fun q => by cases q) (j_inI h2) rfl rfl hdg fun H1 e1 e2 e3 => kk _ h3 H1 _ cells slots ls (j_arrW hW (by decide) h1 e1 e2 e3) (by rw [e2]; exact hz) (fun q hq => (List.mem_append.mp hq).elim (hL q) (fun hq => by rw [List.mem_singleton.mp hq]; exact hja.2)) hls
theorem jr_sast (C : jC Z d cc own ret y) (pc' : Nat) (hp : pc + 1 = pc') (hdg : decode cc pc = .ok (.sastore, 1)) {a : Nat} {i x : Int32} {K : jS → Prop} (h : jas 2 S a i x K) (kk : ∀ S1 : jS, K S1 → jJ Z S1 lv pc' st) : jJ Z S lv pc (.int x :: .int i :: .ref a :: st) := by
  subst hp
  intro H locs cells slots ls hW hz hL hls
  obtain ⟨n, f, h1, h2, h3⟩ := h
  have hja := j_rw hW h1 (show (2 : Nat) < 10 by decide)
  exact W.sast C.1 C.2.1 hja.1 (j_arI C.2.2.2.2.2.2.2.1 (t := 2) rfl (by decide) n f) (fun q => by cases q) (j_inI h2) rfl rfl hdg fun H1 e1 e2 e3 => kk _ h3 H1 _ cells slots ls (j_arrW hW (by decide) h1 e1 e2 e3) (by rw [e2]; exact hz) (fun q hq => (List.mem_append.mp hq).elim (hL q) (fun hq => by rw [List.mem_singleton.mp hq]; exact hja.2)) hls
theorem jr_zast (C : jC Z d cc own ret y) (pc' : Nat) (hp : pc + 1 = pc') (hdg : decode cc pc = .ok (.bastore, 1)) {a : Nat} {i x : Int32} {K : jS → Prop} (h : jas 3 S a i x K) (kk : ∀ S1 : jS, K S1 → jJ Z S1 lv pc' st) : jJ Z S lv pc (.int x :: .int i :: .ref a :: st) := by
  subst hp
  intro H locs cells slots ls hW hz hL hls
  obtain ⟨n, f, h1, h2, h3⟩ := h
  have hja := j_rw hW h1 (show (3 : Nat) < 10 by decide)
  exact W.zast C.1 C.2.1 hja.1 (j_arI C.2.2.2.2.2.2.2.1 (t := 3) rfl (by decide) n f) (fun q => by cases q) (j_inI h2) rfl rfl hdg fun H1 e1 e2 e3 => kk _ h3 H1 _ cells slots ls (j_arrW hW (by decide) h1 e1 e2 e3) (by rw [e2]; exact hz) (fun q hq => (List.mem_append.mp hq).elim (hL q) (fun hq => by rw [List.mem_singleton.mp hq]; exact hja.2)) hls
theorem jr_alen (C : jC Z d cc own ret y) (pc' : Nat) (hp : pc + 1 = pc') (hdg : decode cc pc = .ok (.arraylength, 1)) {a : Nat} {K : Int32 → Prop} (h : jlen S a K) (kk : ∀ v : Int32, K v → jJ Z S lv pc' (.int v :: st)) : jJ Z S lv pc (.ref a :: st) := by
  subst hp
  intro H locs cells slots ls hW hz hL hls
  obtain ⟨t, n, h1, h3⟩ := h
  rcases h1 with ⟨f, h1⟩ | ⟨f, h1⟩
  · obtain ⟨cell, ty, q0, q1, q2, q3, q4, q5, q6⟩ := j_arrI hW C.2.2.2.2.2.2.2.1 h1
    exact W.alen (n := Int32.ofNat n) C.1 C.2.1 q1 q2 q5 rfl rfl hdg (kk _ h3 H locs cells slots ls hW hz hL hls)
  · obtain ⟨cell, ty, q0, q1, q2, q3, q4, q5, q6⟩ := j_arrR hW C.2.2.2.2.2.2.2.1 h1
    exact W.alen (n := Int32.ofNat n) C.1 C.2.1 q1 q2 q5 rfl rfl hdg (kk _ h3 H locs cells slots ls hW hz hL hls)
theorem jr_aald (C : jC Z d cc own ret y) (pc' : Nat) (hp : pc + 1 = pc') {t : Nat} {ty : FieldType} (ht : jty[t]? = some ty) (hty : ty.isReference = true) (hdg : decode cc pc = .ok (.aaload, 1)) {a : Nat} {i : Int32} {K : Option Nat → Prop} (h : jar t S a i K) (kk : ∀ v : Option Nat, K v → jJ Z S lv pc' (va_rf v :: st)) : jJ Z S lv pc (.int i :: .ref a :: st) := by
  subst hp
  intro H locs cells slots ls hW hz hL hls
  obtain ⟨n, f, h1, h2, h3⟩ := h
  obtain ⟨cell, ty2, q0, q1, q2, q3, q4, q5, q6⟩ := j_arrR hW C.2.2.2.2.2.2.2.1 h1
  cases ht.symm.trans q0
  exact W.aald C.1 C.2.1 q1 q2 hty q3 (j_nin q4 h2) (q6 _ (j_lt h2)) rfl rfl hdg (kk _ h3 H locs cells slots ls hW hz hL hls)
theorem jr_aaldn (C : jC Z d cc own ret y) (pc' : Nat) (hp : pc + 1 = pc') {t : Nat} {ty : FieldType} (ht : jty[t]? = some ty) (hty : ty.isReference = true) (hdg : decode cc pc = .ok (.aaload, 1)) {a : Nat} {i : Int32} {K : Nat → Prop} (h : jarn t S a i K) (kk : ∀ v : Nat, K v → jJ Z S lv pc' (.ref v :: st)) : jJ Z S lv pc (.int i :: .ref a :: st) := by
  obtain ⟨n, f, q, h1, h2, h3, h4⟩ := h
  exact jr_aald C pc' hp ht hty hdg (K := fun r => r = some q) ⟨n, f, h1, h2, h3⟩ (fun v hv => by subst hv; exact kk q h4)
theorem jr_aastz (C : jC Z d cc own ret y) (pc' : Nat) (hp : pc + 1 = pc') {t : Nat} {E : String} (ht : jty[t]? = some (.object E)) (h9 : t < 10) (hdg : decode cc pc = .ok (.aastore, 1)) {a : Nat} {i : Int32} {K : jS → Prop} (h : jarz t S a i K) (kk : ∀ S1 : jS, K S1 → jJ Z S1 lv pc' st) : jJ Z S lv pc (.null :: .int i :: .ref a :: st) := by
  subst hp
  intro H locs cells slots ls hW hz hL hls
  obtain ⟨n, f, h1, h2, h3⟩ := h
  have hja := j_rw hW h1 (show t < 10 from h9)
  exact va_WaastN (C := E) C.1 C.2.1 hja.1 (j_arR C.2.2.2.2.2.2.2.1 ht h9 n f) (fun q => by cases q) (j_inR h2) rfl rfl hdg fun H1 e1 e2 e3 => kk _ h3 H1 _ cells slots ls (j_refW (x := none) hW h9 h1 e1 e2 e3) (by rw [e2]; exact hz) (fun q hq => (List.mem_append.mp hq).elim (hL q) (fun hq => by rw [List.mem_singleton.mp hq]; exact hja.2)) hls
/-- a class's objects may go into an array over E: the same class, or castable -/
def jCan (E : String) (cs : List Nat) : Prop := ∀ c ∈ cs, ∀ r : vw_C, jcl[c]? = some r → r.1 = E ∨ Cond.castable r.1 E ∈ jxw
theorem jr_aast (C : jC Z d cc own ret y) (pc' : Nat) (hp : pc + 1 = pc') {t : Nat} {E : String} {cs : List Nat} (ht : jty[t]? = some (.object E)) (h9 : t < 10) (hcan : jCan E cs) (hI : t = 4 → Cond.castable "[I" E ∈ jxw) (hdg : decode cc pc = .ok (.aastore, 1)) {a v : Nat} {i : Int32} {K : jS → Prop} (h : jars t cs S a i v K) (kk : ∀ S1 : jS, K S1 → jJ Z S1 lv pc' st) : jJ Z S lv pc (.ref v :: .int i :: .ref a :: st) := by
  subst hp
  intro H locs cells slots ls hW hz hL hls
  obtain ⟨n, f, h1, h2, h3, h4⟩ := h
  have hja := j_rw hW h1 (show t < 10 from h9)
  have hlt : i.toNatClampNeg < n := Nat.not_le.mp fun q => h2 (Or.inr q)
  have h0 : ¬ i < 0 := fun q => h2 (Or.inl q)
  obtain ⟨kA, comp, k1, k2, k3, -⟩ := (C.2.2.2.2.2.2.2.1.2.2.1 t _ ht h9).2
  obtain ⟨kE, hkE, -⟩ := Vm.findClass_spec k3
  have hcell : ∃ (cv : Cell) (kv : Class), H[v]? = some cv ∧ (∀ q, cv.vm ≠ .statics q) ∧ (zs Z).vm.classes[cv.cls]? = some kv ∧ (zs Z).vm.assignable cv.cls comp = true := by
    rcases h3 with ⟨c, V, g1, g2⟩ | ⟨t4, m0, g, g1⟩
    · obtain ⟨r, cell, q0, q1, q2, q3, q5, -, q4⟩ := j_obj hW C.2.2.2.2.2.2.2.1 g1
      have hfc := C.2.2.2.2.2.2.2.1.2.1 c _ q0
      obtain ⟨kC, hkC, -⟩ := Vm.findClass_spec hfc
      refine ⟨cell, kC, q1, (fun q h => by rw [h] at q3; cases q3), by rw [q2]; exact hkC, ?_⟩
      rw [q2]
      rcases hcan c g2 r q0 with hE | hE
      · exact vb_asgS comp _ k3 (by rw [← hE]; exact hfc)
      · exact vb_asgC (C.2.2.2.2.2.2.2.1.2.2.2.1 _ hE) comp _ k3 hfc
    · have q1 := (j_rw hW g1 (show (0 : Nat) < 10 by decide)).1
      have hnm : (zs Z).vm.findClass "[I" = some (gA Z.2.1 0) := va_nm_int (C.2.2.2.2.2.2.2.1.2.2.1 0 .int rfl (by decide)).2
      obtain ⟨kv, hkv, -⟩ := Vm.findClass_spec hnm
      exact ⟨_, kv, q1, (fun q h => by cases h), hkv, vb_asgC (C.2.2.2.2.2.2.2.1.2.2.2.1 _ (hI t4)) comp _ k3 hnm⟩
  obtain ⟨cv, kv, r1, r2, r3, r4⟩ := hcell
  exact W.aast C.1 C.2.1 hja.1 (fun q h => by cases h) (fun h => by cases h) k1 k2 rfl hkE ⟨h0, by show _ < (arrV _ _ _).slots.size; rw [arrV_size]; exact hlt⟩ r1 r2 r3 r4 rfl rfl hdg fun H1 e1 e2 e3 => kk _ h4 H1 _ cells slots ls (j_refW (x := some v) hW h9 h1 e1 e2 e3) (by rw [e2]; exact hz) (fun q hq => (List.mem_append.mp hq).elim (hL q) (fun hq => by rw [List.mem_singleton.mp hq]; exact hja.2)) hls
theorem jr_new (C : jC Z d cc own ret y) (pc' : Nat) (hp : pc + 3 = pc') {c N : Nat} (h9 : c < 9) {Cn : String} {T : u_T} {ty : Nat → FieldType} (f1 : jcl[c]? = some (Cn, T, N)) (f2 : ∀ w ∈ u_ws Cn T N, w ∈ lw_all) (f3 : ∀ k, k < N → parseFieldDescriptor (T k).2.2.1 = some (ty k)) {index : Nat} (hl : Cond.classLink own index Cn ∈ lw_all) (hi : Cond.instantiable Cn N ∈ lw_all) (hn : Cond.initialized Cn ∈ lw_all) (hdg : decode cc pc = .ok (.new index, 3)) {K : jS → Nat → Prop} (h : jnew c N ty S K) (kk : ∀ (S1 : jS) (a : Nat), K S1 a → jJ Z S1 lv pc' (.ref a :: st)) : jJ Z S lv pc st := by
  subst hp
  intro H locs cells slots ls hW hz hL hls
  obtain ⟨h1, h2, h3⟩ := h
  have hts := C.2.2.2.2.1
  have hKn := C.2.2.2.2.2.2.2.1.1 c _ f1 (Or.inl h9)
  refine W.tight C.2.2.2.2.2.2.2.2.1 fun k n hk hn2 => ?_
  have g4 := hW.2.2.2.1
  have g5 := hW.2.2.2.2.1
  refine W.newc C.1 C.2.1 C.2.2.2.1 (hts _ hl) (hts _ hi) (hts _ hn) rfl hdg (by rw [C.2.2.2.2.2.2.2.2.2.2.1]; omega) (by rw [C.2.2.2.2.2.2.2.2.2.2.2.1]; omega) fun cC kC q1 q2 q3 q4 => ?_
  have hcC : cC = gC Z.2.1 c := Option.some.inj (q1.symm.trans hKn.2.1)
  subst hcC
  have hcell : (H.push (blank (gC Z.2.1 c) kC))[H.size]? = some (blank (gC Z.2.1 c) kC) := by simp
  refine kk _ H.size (h3 H.size (hW.fresh C.2.2.2.2.2.2.2.1)) _ _ _ _ ls (hW.push (e1 := (c, .inr (.inr (jdef ty)))) (k := N) h9 ⟨_, f1, u_born ty hts f2 hKn q2 hcell f3⟩ h1 (by show (kC.instanceTypes.map defaultValue).size ≤ N; rw [Array.size_map, q4]; exact Nat.le_refl _) h2) (by rw [Array.size_push]; omega) hL hls
theorem j_toInt {n : Int32} (h : ¬ n < 0) (h2 : n ≤ 65535) : n.toNatClampNeg ≤ 65535 := by
  have h3 := Int32.le_iff_toInt_le.mp h2
  show n.toInt.toNat ≤ 65535
  have h4 : (65535 : Int32).toInt = 65535 := by decide
  omega
theorem jr_newa (C : jC Z d cc own ret y) (pc' : Nat) (hp : pc + 2 = pc') {atype : ArrayType} {t : Nat} {ty : FieldType} (ht : jty[t]? = some ty) (h9 : t < 10) (hty : newarray.typeOf atype = ty) (hdef : defaultValue ty = .int 0) (hb8 : componentBytes ty ≤ 8) (harr : Cond.arrayClass ty ∈ lw_all) (hdg : decode cc pc = .ok (.newarray atype, 2)) {n : Int32} {K : jS → Nat → Prop} (h : jnewa t S n K) (kk : ∀ (S1 : jS) (a : Nat), K S1 a → jJ Z S1 lv pc' (.ref a :: st)) : jJ Z S lv pc (.int n :: st) := by
  subst hp
  subst hty
  intro H locs cells slots ls hW hz hL hls
  obtain ⟨h1, h2, h3, h4, h5⟩ := h
  have hts := C.2.2.2.2.1
  refine W.tight C.2.2.2.2.2.2.2.2.1 fun k n2 hk hn2 => ?_
  have g4 := hW.2.2.2.1
  have g5 := hW.2.2.2.2.1
  have h6 := j_toInt h1 h2
  refine W.newa C.1 C.2.1 (hts _ harr) rfl hdg rfl h1 (Nat.le_trans (Nat.mul_le_mul h6 hb8) (Nat.le_of_ble_eq_true rfl)) (by rw [C.2.2.2.2.2.2.2.2.2.2.1]; omega) (by rw [C.2.2.2.2.2.2.2.2.2.2.2.1]; omega) fun cA kA comp q1 q2 q3 => ?_
  have hnm := (C.2.2.2.2.2.2.2.1.2.2.1 t _ ht h9).2
  have hcA : cA = gA Z.2.1 t := by
    have h7 : (zs Z).vm.findClass ("[" ++ (newarray.typeOf atype).toString) = some (gA Z.2.1 t) := by
      cases atype <;> exact hnm
    exact Option.some.inj (q1.symm.trans h7)
  subst hcA
  have hcell : (H.push ({ cls := gA Z.2.1 t, slots := Array.replicate n.toNatClampNeg (defaultValue (newarray.typeOf atype)), vm := .none } : Cell))[H.size]? = some (vp_cell (gA Z.2.1 t) (n.toNatClampNeg, .inl (fun _ => 0))) := by
    rw [arrV_new, hdef, vp_cell_i]
    simp
  refine kk _ H.size (h5 H.size (hW.fresh C.2.2.2.2.2.2.2.1)) _ _ _ _ ls (hW.push (e1 := (t, .inl (n.toNatClampNeg, fun _ => 0))) (k := n.toNatClampNeg) h9 hcell h3 (by show (Array.replicate n.toNatClampNeg (defaultValue (newarray.typeOf atype))).size ≤ _; rw [Array.size_replicate]; exact Nat.le_refl _) h4) (by rw [Array.size_push]; omega) hL hls
theorem jr_newr (C : jC Z d cc own ret y) (pc' : Nat) (hp : pc + 3 = pc') {t : Nat} {E : String} (ht : jty[t]? = some (.object E)) (h9 : t < 10) {index : Nat} (hl : Cond.classLink own index E ∈ lw_all) (hover : Cond.arrayOver (.object E) ∈ jxw) (hdg : decode cc pc = .ok (.anewarray index, 3)) {n : Int32} {K : jS → Nat → Prop} (h : jnewr t S n K) (kk : ∀ (S1 : jS) (a : Nat), K S1 a → jJ Z S1 lv pc' (.ref a :: st)) : jJ Z S lv pc (.int n :: st) := by
  subst hp
  intro H locs cells slots ls hW hz hL hls
  obtain ⟨h1, h2, h3, h4, h5⟩ := h
  have hts := C.2.2.2.2.1
  refine W.tight C.2.2.2.2.2.2.2.2.1 fun k n2 hk hn2 => ?_
  have g4 := hW.2.2.2.1
  have g5 := hW.2.2.2.2.1
  have h6 := j_toInt h1 h2
  refine W.anew C.1 C.2.1 C.2.2.2.1 (hts _ hl) (va_AO.use (show va_AO E (zs Z) from C.2.2.2.2.2.2.2.1.2.2.2.1 _ hover)) rfl hdg rfl h1 (Nat.le_trans (Nat.mul_le_mul h6 (Nat.le_refl 4)) (Nat.le_of_ble_eq_true rfl)) (by rw [C.2.2.2.2.2.2.2.2.2.2.1]; omega) (by rw [C.2.2.2.2.2.2.2.2.2.2.2.1]; omega) fun cA kA comp q1 q2 q3 q4 => ?_
  obtain ⟨kA', comp', r1, r2, r3, r4⟩ := (C.2.2.2.2.2.2.2.1.2.2.1 t _ ht h9).2
  have hcA : cA = gA Z.2.1 t := Option.some.inj (q1.symm.trans r4)
  subst hcA
  have hcell : (H.push ({ cls := gA Z.2.1 t, slots := Array.replicate n.toNatClampNeg .null, vm := .none } : Cell))[H.size]? = some (vp_cell (gA Z.2.1 t) (n.toNatClampNeg, .inr (.inr (.inr (.inr (fun _ => none)))))) := by
    rw [arrV_new, vp_cell_q]
    simp
    rfl
  refine kk _ H.size (h5 H.size (hW.fresh C.2.2.2.2.2.2.2.1)) _ _ _ _ ls (hW.push (e1 := (t, .inr (.inl (n.toNatClampNeg, fun _ => none)))) (k := n.toNatClampNeg) h9 hcell h3 (by show (Array.replicate n.toNatClampNeg Value.null).size ≤ _; rw [Array.size_replicate]; exact Nat.le_refl _) h4) (by rw [Array.size_push]; omega) hL hls
end JA
