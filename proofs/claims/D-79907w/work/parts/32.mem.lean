/-! PREDICATES OF STEPS OVER THE ABSTRACT WORLD -/
def jgv (cs : List Nat) (k : Nat) (S : jS) (a : Nat) (v : Value) : Prop := ∃ (c : Nat) (V : Nat → Value), S.1 a = some (c, .inr (.inr V)) ∧ c ∈ cs ∧ V k = v
def jgi (cs : List Nat) (k : Nat) (S : jS) (a : Nat) (K : Int32 → Prop) : Prop := ∃ v : Int32, jgv cs k S a (.int v) ∧ K v
def jgr (cs : List Nat) (k : Nat) (S : jS) (a : Nat) (K : Nat → Prop) : Prop := ∃ q : Nat, jgv cs k S a (.ref q) ∧ K q
def jgo (cs : List Nat) (k : Nat) (S : jS) (a : Nat) (K : Option Nat → Prop) : Prop := ∃ r : Option Nat, jgv cs k S a (va_rf r) ∧ K r
def jpv (cs : List Nat) (k : Nat) (S : jS) (a : Nat) (v : Value) (K : jS → Prop) : Prop := ∃ (c : Nat) (V : Nat → Value), S.1 a = some (c, .inr (.inr V)) ∧ c ∈ cs ∧ K (jset S a (c, .inr (.inr (updV V k v))))
def jpi (cs : List Nat) (k : Nat) (S : jS) (a : Nat) (v : Int32) (K : jS → Prop) : Prop := jpv cs k S a (.int v) K
def jpz (cs : List Nat) (k : Nat) (S : jS) (a : Nat) (v : Int32) (K : jS → Prop) : Prop := (v = 0 ∨ v = 1) ∧ jpv cs k S a (.int v) K
def jpr (cs : List Nat) (k : Nat) (S : jS) (a : Nat) (r : Option Nat) (K : jS → Prop) : Prop := jpv cs k S a (va_rf r) K
/-- int, byte, short, boolean arrays of kind t -/
def jal (t : Nat) (S : jS) (a : Nat) (i : Int32) (K : Int32 → Prop) : Prop := ∃ (n : Nat) (f : Nat → Int32), S.1 a = some (t, .inl (n, f)) ∧ vp_in i n ∧ K (f i.toNatClampNeg)
def jnar (t : Nat) (x : Int32) : Int32 := if t = 0 then x else if t = 1 then vp_nar .byte x else if t = 2 then vp_nar .short x else vp_nar .boolean x
def jas (t : Nat) (S : jS) (a : Nat) (i x : Int32) (K : jS → Prop) : Prop := ∃ (n : Nat) (f : Nat → Int32), S.1 a = some (t, .inl (n, f)) ∧ vp_in i n ∧ K (jset S a (t, .inl (n, upd f i.toNatClampNeg (jnar t x))))
def jlen (S : jS) (a : Nat) (K : Int32 → Prop) : Prop := ∃ (t n : Nat), ((∃ f : Nat → Int32, S.1 a = some (t, .inl (n, f))) ∨ ∃ f : Nat → Option Nat, S.1 a = some (t, .inr (.inl (n, f)))) ∧ K (Int32.ofNat n)
def jar (t : Nat) (S : jS) (a : Nat) (i : Int32) (K : Option Nat → Prop) : Prop := ∃ (n : Nat) (f : Nat → Option Nat), S.1 a = some (t, .inr (.inl (n, f))) ∧ vp_in i n ∧ K (f i.toNatClampNeg)
def jarn (t : Nat) (S : jS) (a : Nat) (i : Int32) (K : Nat → Prop) : Prop := ∃ (n : Nat) (f : Nat → Option Nat) (q : Nat), S.1 a = some (t, .inr (.inl (n, f))) ∧ vp_in i n ∧ f i.toNatClampNeg = some q ∧ K q
def jars (t : Nat) (cs : List Nat) (S : jS) (a : Nat) (i : Int32) (q : Nat) (K : jS → Prop) : Prop := ∃ (n : Nat) (f : Nat → Option Nat), S.1 a = some (t, .inr (.inl (n, f))) ∧ vp_in i n ∧ ((∃ (c : Nat) (V : Nat → Value), S.1 q = some (c, .inr (.inr V)) ∧ c ∈ cs) ∨ (t = 4 ∧ ∃ (m : Nat) (g : Nat → Int32), S.1 q = some (0, .inl (m, g)))) ∧ K (jset S a (t, .inr (.inl (n, va_up f i.toNatClampNeg (some q)))))
def jarz (t : Nat) (S : jS) (a : Nat) (i : Int32) (K : jS → Prop) : Prop := ∃ (n : Nat) (f : Nat → Option Nat), S.1 a = some (t, .inr (.inl (n, f))) ∧ vp_in i n ∧ K (jset S a (t, .inr (.inl (n, va_up f i.toNatClampNeg none))))
def jdef (ty : Nat → FieldType) : Nat → Value := fun k => defaultValue (ty k)
def jmk (S : jS) (a : Nat) (e : jE) (n : Nat) : jS := (va_up S.1 a (some e), S.2.1 - 1, S.2.2.1 - n, S.2.2.2)
def jnew (c N : Nat) (ty : Nat → FieldType) (S : jS) (K : jS → Nat → Prop) : Prop := 1 ≤ S.2.1 ∧ N ≤ S.2.2.1 ∧ ∀ a : Nat, S.1 a = none → K (jmk S a (c, .inr (.inr (jdef ty))) N) a
def jnewa (t : Nat) (S : jS) (n : Int32) (K : jS → Nat → Prop) : Prop := ¬ n < 0 ∧ n ≤ 65535 ∧ 1 ≤ S.2.1 ∧ n.toNatClampNeg ≤ S.2.2.1 ∧ ∀ a : Nat, S.1 a = none → K (jmk S a (t, .inl (n.toNatClampNeg, fun _ => 0)) n.toNatClampNeg) a
def jnewr (t : Nat) (S : jS) (n : Int32) (K : jS → Nat → Prop) : Prop := ¬ n < 0 ∧ n ≤ 65535 ∧ 1 ≤ S.2.1 ∧ n.toNatClampNeg ≤ S.2.2.1 ∧ ∀ a : Nat, S.1 a = none → K (jmk S a (t, .inr (.inl (n.toNatClampNeg, fun _ => none))) n.toNatClampNeg) a
/-- loops: n steps at most -/
def jlp {α : Type} : Nat → (α → (α → Prop) → Prop) → α → Prop
  | 0, _, _ => False
  | n + 1, f, x => f x (jlp n f)
/-- a class's field as the instructions name it -/
def jFO (cs : List Nat) (k : Nat) (ref name desc : String) (ty : FieldType) (fin : Bool) : Prop := parseFieldDescriptor desc = some ty ∧ ∀ c ∈ cs, (c < 9 ∨ c = 14) ∧ ∃ (C : String) (T : u_T) (N : Nat) (ty0 : Nat → FieldType), jcl[c]? = some (C, T, N) ∧ (∀ w ∈ u_ws C T N, w ∈ lw_all) ∧ (∀ k, k < N → parseFieldDescriptor (T k).2.2.1 = some (ty0 k)) ∧ (∀ a, a < N → ∀ b, b < N → a ≠ b → (T a).2.1 ≠ (T b).2.1) ∧ k < N ∧
  (T k).2.1 = name ∧ (T k).2.2.1 = desc ∧ (T k).2.2.2 = fin ∧ ∀ (args : Array Value) (s : State), (∀ w ∈ lw_all, w.before args s = true) → ∀ x, s.fieldFound? (T k).1 name desc = some x → s.fieldFound? ref name desc = some x
section JM
variable {Z : jZ} {d : Nat} {cc : ByteArray} {own : String} {ret : Option FieldType} {y : MethodName} {pc : Nat} {S : jS} {lv : List (Nat × Value)} {st : List Value}
theorem jr_getv (C : jC Z d cc own ret y) (pc' : Nat) (hp : pc + 3 = pc') {cs : List Nat} {k : Nat} {ref name desc : String} {ty : FieldType} {fin : Bool} (F : jFO cs k ref name desc ty fin) {index : Nat} (hl : Cond.fieldLink own index ref name desc ∈ lw_all) (hdg : decode cc pc = .ok (.getfield index, 3)) {a : Nat} {v : Value} (h : jgv cs k S a v) (kk : jJ Z S lv pc' (v :: st)) : jJ Z S lv pc (.ref a :: st) := by
  subst hp
  intro H locs cells slots ls hW hz hL hls
  obtain ⟨c, V, h1, h2, h3⟩ := h
  obtain ⟨h9, Cn, T, N, ty0, f1, f2, f3, f4, f5, f6, f7, f8, f9⟩ := F.2 c h2
  obtain ⟨r, cell, q0, q1, q2, q3, q5, -, q4⟩ := j_obj hW C.2.2.2.2.2.2.2.1 h1
  have hr : r = (Cn, T, N) := Option.some.inj (q0.symm.trans f1)
  subst hr
  obtain ⟨hS, hfc, kC, hkC, hkind⟩ := C.2.2.2.2.2.2.2.1.1 c _ f1 h9
  obtain ⟨cf, kf, fi, f, hi, hsl⟩ := hS k f5
  have hfa := (u_facts hfc hkC (u_lays C.2.2.2.2.1 f2 f5) hi).1
  rw [f6, f7] at hi
  refine W.getf C.1 C.2.1 C.2.2.2.1 (C.2.2.2.2.1 _ hl) (f9 _ _ C.2.2.2.2.1 _ hi) hfa q1 q5 (v := v) ?_ rfl rfl hdg (kk H locs cells slots ls hW hz hL hls)
  rw [hsl, q4 k f5, h3]
theorem jr_getvN (C : jC Z d cc own ret y) (pc' : Nat) (hp : pc + 3 = pc') {cs : List Nat} {k : Nat} {ref name desc : String} {ty : FieldType} {fin : Bool} (F : jFO cs k ref name desc ty fin) {index : Nat} {host : String} (hl : Cond.fieldLinkNest own index ref name desc host ∈ jxw) (hdg : decode cc pc = .ok (.getfield index, 3)) {a : Nat} {v : Value} (h : jgv cs k S a v) (kk : jJ Z S lv pc' (v :: st)) : jJ Z S lv pc (.ref a :: st) := by
  subst hp
  intro H locs cells slots ls hW hz hL hls
  obtain ⟨c, V, h1, h2, h3⟩ := h
  obtain ⟨h9, Cn, T, N, ty0, f1, f2, f3, f4, f5, f6, f7, f8, f9⟩ := F.2 c h2
  obtain ⟨r, cell, q0, q1, q2, q3, q5, -, q4⟩ := j_obj hW C.2.2.2.2.2.2.2.1 h1
  have hr : r = (Cn, T, N) := Option.some.inj (q0.symm.trans f1)
  subst hr
  obtain ⟨hS, hfc, kC, hkC, hkind⟩ := C.2.2.2.2.2.2.2.1.1 c _ f1 h9
  obtain ⟨cf, kf, fi, f, hi, hsl⟩ := hS k f5
  have hfa := (u_facts hfc hkC (u_lays C.2.2.2.2.1 f2 f5) hi).1
  rw [f6, f7] at hi
  refine va_Wgetf C.1 C.2.1 C.2.2.2.1 (va_Nw.use rfl (C.2.2.2.2.2.2.2.1.2.2.2.1 _ hl)) (f9 _ _ C.2.2.2.2.1 _ hi) hfa q1 q5 (v := v) ?_ rfl rfl hdg (kk H locs cells slots ls hW hz hL hls)
  rw [hsl, q4 k f5, h3]
theorem jr_geti (C : jC Z d cc own ret y) (pc' : Nat) (hp : pc + 3 = pc') {cs : List Nat} {k : Nat} {ref name desc : String} {ty : FieldType} {fin : Bool} (F : jFO cs k ref name desc ty fin) {index : Nat} (hl : Cond.fieldLink own index ref name desc ∈ lw_all) (hdg : decode cc pc = .ok (.getfield index, 3)) {a : Nat} {K : Int32 → Prop} (h : jgi cs k S a K) (kk : ∀ v : Int32, K v → jJ Z S lv pc' (.int v :: st)) : jJ Z S lv pc (.ref a :: st) := by
  obtain ⟨v, h1, h2⟩ := h
  exact jr_getv C pc' hp F hl hdg h1 (kk v h2)
theorem jr_getr (C : jC Z d cc own ret y) (pc' : Nat) (hp : pc + 3 = pc') {cs : List Nat} {k : Nat} {ref name desc : String} {ty : FieldType} {fin : Bool} (F : jFO cs k ref name desc ty fin) {index : Nat} (hl : Cond.fieldLink own index ref name desc ∈ lw_all) (hdg : decode cc pc = .ok (.getfield index, 3)) {a : Nat} {K : Nat → Prop} (h : jgr cs k S a K) (kk : ∀ v : Nat, K v → jJ Z S lv pc' (.ref v :: st)) : jJ Z S lv pc (.ref a :: st) := by
  obtain ⟨v, h1, h2⟩ := h
  exact jr_getv C pc' hp F hl hdg h1 (kk v h2)
theorem jr_geto (C : jC Z d cc own ret y) (pc' : Nat) (hp : pc + 3 = pc') {cs : List Nat} {k : Nat} {ref name desc : String} {ty : FieldType} {fin : Bool} (F : jFO cs k ref name desc ty fin) {index : Nat} (hl : Cond.fieldLink own index ref name desc ∈ lw_all) (hdg : decode cc pc = .ok (.getfield index, 3)) {a : Nat} {K : Option Nat → Prop} (h : jgo cs k S a K) (kk : ∀ v : Option Nat, K v → jJ Z S lv pc' (va_rf v :: st)) : jJ Z S lv pc (.ref a :: st) := by
  obtain ⟨v, h1, h2⟩ := h
  exact jr_getv C pc' hp F hl hdg h1 (kk v h2)
theorem jr_getiN (C : jC Z d cc own ret y) (pc' : Nat) (hp : pc + 3 = pc') {cs : List Nat} {k : Nat} {ref name desc : String} {ty : FieldType} {fin : Bool} (F : jFO cs k ref name desc ty fin) {index : Nat} {host : String} (hl : Cond.fieldLinkNest own index ref name desc host ∈ jxw) (hdg : decode cc pc = .ok (.getfield index, 3)) {a : Nat} {K : Int32 → Prop} (h : jgi cs k S a K) (kk : ∀ v : Int32, K v → jJ Z S lv pc' (.int v :: st)) : jJ Z S lv pc (.ref a :: st) := by
  obtain ⟨v, h1, h2⟩ := h
  exact jr_getvN C pc' hp F hl hdg h1 (kk v h2)
theorem jr_getrN (C : jC Z d cc own ret y) (pc' : Nat) (hp : pc + 3 = pc') {cs : List Nat} {k : Nat} {ref name desc : String} {ty : FieldType} {fin : Bool} (F : jFO cs k ref name desc ty fin) {index : Nat} {host : String} (hl : Cond.fieldLinkNest own index ref name desc host ∈ jxw) (hdg : decode cc pc = .ok (.getfield index, 3)) {a : Nat} {K : Nat → Prop} (h : jgr cs k S a K) (kk : ∀ v : Nat, K v → jJ Z S lv pc' (.ref v :: st)) : jJ Z S lv pc (.ref a :: st) := by
  obtain ⟨v, h1, h2⟩ := h
  exact jr_getvN C pc' hp F hl hdg h1 (kk v h2)
theorem jr_getoN (C : jC Z d cc own ret y) (pc' : Nat) (hp : pc + 3 = pc') {cs : List Nat} {k : Nat} {ref name desc : String} {ty : FieldType} {fin : Bool} (F : jFO cs k ref name desc ty fin) {index : Nat} {host : String} (hl : Cond.fieldLinkNest own index ref name desc host ∈ jxw) (hdg : decode cc pc = .ok (.getfield index, 3)) {a : Nat} {K : Option Nat → Prop} (h : jgo cs k S a K) (kk : ∀ v : Option Nat, K v → jJ Z S lv pc' (va_rf v :: st)) : jJ Z S lv pc (.ref a :: st) := by
  obtain ⟨v, h1, h2⟩ := h
  exact jr_getvN C pc' hp F hl hdg h1 (kk v h2)
theorem j_apart {args : Array Value} {s : State} {C : String} {T : u_T} {N : Nat} {ty0 : Nat → FieldType} {cC : ClassId} {iS : Nat → Nat} (hts : ∀ w ∈ lw_all, w.before args s = true) (hin : ∀ w ∈ u_ws C T N, w ∈ lw_all) (hty : ∀ k, k < N → parseFieldDescriptor (T k).2.2.1 = some (ty0 k)) (hnm : ∀ a, a < N → ∀ b, b < N → a ≠ b → (T a).2.1 ≠ (T b).2.1) (hK : u_Kn s C T N cC iS) : ∀ x y, x < N → y < N → x ≠ y → iS x ≠ iS y := by
  intro x y hx hy hne
  obtain ⟨hS, -⟩ := hK
  obtain ⟨_, _, _, fa, hia, ea⟩ := hS x hx
  obtain ⟨_, _, _, fb, hib, eb⟩ := hS y hy
  rw [← ea, ← eb]
  refine u_apart (u_lays hts hin hx) (u_lays hts hin hy) hia hib ?_
  rw [(State.fieldFound?_type hia (hty x hx)).1, (State.fieldFound?_type hib (hty y hy)).1]
  exact hnm x hx y hy hne
/-- what a store into a field leaves -/
theorem j_putW {G : jG} {H H1 : Heap} {args : Array Value} {s : State} {a k c : Nat} {V : Nat → Value} {v : Value} {r : vw_C} {cell : Cell} {ty0 : Nat → FieldType} (hW : jW G S H) (hts : ∀ w ∈ lw_all, w.before args s = true) (hK : jK G s) (h9 : c < 9) (f1 : jcl[c]? = some r) (f2 : ∀ w ∈ u_ws r.1 r.2.1 r.2.2, w ∈ lw_all) (f3 : ∀ k, k < r.2.2 → parseFieldDescriptor (r.2.1 k).2.2.1 = some (ty0 k)) (f4 : ∀ a, a < r.2.2 → ∀ b, b < r.2.2 → a ≠ b → (r.2.1 a).2.1 ≠ (r.2.1 b).2.1) (f5 : k < r.2.2) (h1 : S.1 a = some (c, .inr (.inr V))) (q1 : H[a]? = some cell) (q2 : cell.cls = gC G c) (q3 : cell.vm = .none) (q4 : ∀ k, k < r.2.2 → cell.slots[gI G c k]? = some (V k)) (e1 : H1[a]? = some (cell.setSlot (gI G c k) v)) (e2 : H1.size = H.size) (e3 : ∀ q : Nat, q ≠ a → H1[q]? = H[q]?) : jW G (jset S a (c, .inr (.inr (updV V k v)))) H1 := by
  have hap := j_apart hts f2 f3 f4 (hK.1 c r f1 (Or.inl h9))
  exact jW.set hW h1 ⟨r, f1, _, e1, q2, q3, t_set q4 hap f5 v⟩ h9 e2 e3 q1 e1 (k2_slotsz _ _ _) h9
theorem jr_putv (C : jC Z d cc own ret y) (pc' : Nat) (hp : pc + 3 = pc') {cs : List Nat} {k : Nat} {ref name desc : String} {ty : FieldType} (F : jFO cs k ref name desc ty false) (h9s : ∀ c ∈ cs, c < 9) {index : Nat} (hl : Cond.fieldLink own index ref name desc ∈ lw_all) (hdg : decode cc pc = .ok (.putfield index, 3)) {a : Nat} {v : Value} (hn : narrow ty v = v) (hfit : fits ty v = true) {K : jS → Prop} (h : jpv cs k S a v K) (kk : ∀ S1 : jS, K S1 → jJ Z S1 lv pc' st) : jJ Z S lv pc (v :: .ref a :: st) := by
  subst hp
  intro H locs cells slots ls hW hz hL hls
  obtain ⟨c, V, h1, h2, h3⟩ := h
  have h9 := h9s c h2
  obtain ⟨-, Cn, T, N, ty0, f1, f2, f3, f4, f5, f6, f7, f8, f9⟩ := F.2 c h2
  have hja := j_rw hW h1 h9
  obtain ⟨r, q0, cell, q1, q2, q3, q4⟩ := hja.1
  have hr : r = (Cn, T, N) := Option.some.inj (q0.symm.trans f1)
  subst hr
  have hKn := C.2.2.2.2.2.2.2.1.1 c _ f1 (Or.inl h9)
  obtain ⟨hS, hfc, kC, hkC, hkind⟩ := hKn
  obtain ⟨cf, kf, fi, f, hi, hsl⟩ := hS k f5
  have hlay := C.2.2.2.2.1 _ (f2 _ (u_in_lay f5))
  unfold u_lay at hlay
  rw [if_neg (by rw [f8]; decide)] at hlay
  have hst := (u_facts hfc hkC (u_lays C.2.2.2.2.1 f2 f5) hi).1
  rw [f6, f7] at hi hlay
  have h6 := u_store hfc hkC hkind hlay hi F.1 hn hfit
  refine W.putK C.1 C.2.1 (f := f) ⟨C.2.2.2.1, C.2.2.2.2.1 _ hl, ⟨_, _, _, f9 _ _ C.2.2.2.2.1 _ hi⟩, hst⟩ (by rw [q2]; exact h6) q1 q3 (by rw [hsl]; exact k2_hasslot (q4 k f5)) rfl rfl hdg fun H1 e1 e2 e3 => ?_
  rw [hsl] at e1 ⊢
  exact kk _ h3 H1 _ cells slots ls (j_putW hW C.2.2.2.2.1 C.2.2.2.2.2.2.2.1 h9 f1 f2 f3 f4 f5 h1 q1 q2 q3 q4 e1 e2 e3) (by rw [e2]; exact hz) (fun q hq => (List.mem_append.mp hq).elim (hL q) (fun hq => by rw [List.mem_singleton.mp hq]; exact hja.2)) hls
theorem jr_putvN (C : jC Z d cc own ret y) (pc' : Nat) (hp : pc + 3 = pc') {cs : List Nat} {k : Nat} {ref name desc : String} {ty : FieldType} (F : jFO cs k ref name desc ty false) (h9s : ∀ c ∈ cs, c < 9) {index : Nat} {host : String} (hl : Cond.fieldLinkNest own index ref name desc host ∈ jxw) (hdg : decode cc pc = .ok (.putfield index, 3)) {a : Nat} {v : Value} (hn : narrow ty v = v) (hfit : fits ty v = true) {K : jS → Prop} (h : jpv cs k S a v K) (kk : ∀ S1 : jS, K S1 → jJ Z S1 lv pc' st) : jJ Z S lv pc (v :: .ref a :: st) := by
  subst hp
  intro H locs cells slots ls hW hz hL hls
  obtain ⟨c, V, h1, h2, h3⟩ := h
  have h9 := h9s c h2
  obtain ⟨-, Cn, T, N, ty0, f1, f2, f3, f4, f5, f6, f7, f8, f9⟩ := F.2 c h2
  have hja := j_rw hW h1 h9
  obtain ⟨r, q0, cell, q1, q2, q3, q4⟩ := hja.1
  have hr : r = (Cn, T, N) := Option.some.inj (q0.symm.trans f1)
  subst hr
  have hKn := C.2.2.2.2.2.2.2.1.1 c _ f1 (Or.inl h9)
  obtain ⟨hS, hfc, kC, hkC, hkind⟩ := hKn
  obtain ⟨cf, kf, fi, f, hi, hsl⟩ := hS k f5
  have hlay := C.2.2.2.2.1 _ (f2 _ (u_in_lay f5))
  unfold u_lay at hlay
  rw [if_neg (by rw [f8]; decide)] at hlay
  have hst := (u_facts hfc hkC (u_lays C.2.2.2.2.1 f2 f5) hi).1
  rw [f6, f7] at hi hlay
  have h6 := u_store hfc hkC hkind hlay hi F.1 hn hfit
  refine va_WputK C.1 C.2.1 (f := f) C.2.2.2.1 (va_Nw.use rfl (C.2.2.2.2.2.2.2.1.2.2.2.1 _ hl)) (f9 _ _ C.2.2.2.2.1 _ hi) hst (by rw [q2]; exact h6) q1 q3 (by rw [hsl]; exact k2_hasslot (q4 k f5)) rfl rfl hdg fun H1 e1 e2 e3 => ?_
  rw [hsl] at e1 ⊢
  exact kk _ h3 H1 _ cells slots ls (j_putW hW C.2.2.2.2.1 C.2.2.2.2.2.2.2.1 h9 f1 f2 f3 f4 f5 h1 q1 q2 q3 q4 e1 e2 e3) (by rw [e2]; exact hz) (fun q hq => (List.mem_append.mp hq).elim (hL q) (fun hq => by rw [List.mem_singleton.mp hq]; exact hja.2)) hls
/-- a final field, in its class's own constructor -/
theorem jr_putvF (C : jC Z d cc own ret y) (pc' : Nat) (hp : pc + 3 = pc') (hin : y.name = "<init>") {cs : List Nat} {k : Nat} {name desc : String} {ty : FieldType} (F : jFO cs k own name desc ty true) (hdecl : ∀ c ∈ cs, ∀ r : vw_C, jcl[c]? = some r → (r.2.1 k).1 = own) (h9s : ∀ c ∈ cs, c < 9) {index : Nat} (hl : Cond.fieldLink own index own name desc ∈ lw_all) (hdg : decode cc pc = .ok (.putfield index, 3)) {a : Nat} {v : Value} (hn : narrow ty v = v) (hfit : fits ty v = true) {K : jS → Prop} (h : jpv cs k S a v K) (kk : ∀ S1 : jS, K S1 → jJ Z S1 lv pc' st) : jJ Z S lv pc (v :: .ref a :: st) := by
  subst hp
  intro H locs cells slots ls hW hz hL hls
  obtain ⟨c, V, h1, h2, h3⟩ := h
  have h9 := h9s c h2
  obtain ⟨-, Cn, T, N, ty0, f1, f2, f3, f4, f5, f6, f7, f8, f9⟩ := F.2 c h2
  have hja := j_rw hW h1 h9
  obtain ⟨r, q0, cell, q1, q2, q3, q4⟩ := hja.1
  have hr : r = (Cn, T, N) := Option.some.inj (q0.symm.trans f1)
  subst hr
  have hKn := C.2.2.2.2.2.2.2.1.1 c _ f1 (Or.inl h9)
  obtain ⟨hS, hfc, kC, hkC, hkind⟩ := hKn
  obtain ⟨cf, kf, fi, f, hi, hsl⟩ := hS k f5
  have hlay := C.2.2.2.2.1 _ (f2 _ (u_in_lay f5))
  unfold u_lay at hlay
  rw [if_pos f8] at hlay
  have hst := (u_facts hfc hkC (u_lays C.2.2.2.2.1 f2 f5) hi).1
  have hcf : (zm Z).cls = cf := by
    obtain ⟨_, _, c', _, _, _, -, -, hf', -, -, -, hown2, -⟩ := Cond.laysFinal_spec hlay
    have e1 : c' = cf := by have := hi.symm.trans hf'; simp at this; exact this.1.symm
    rw [hdecl c h2 _ f1] at hown2
    rw [← e1]; exact Option.some.inj (C.2.2.2.1.symm.trans hown2)
  rw [f6, f7] at hi hlay
  have h6 := u_fits hfc hkC hkind (Or.inr hlay) hi F.1 hn hfit
  refine W.putFinK C.1 C.2.1 C.2.2.2.1 (C.2.2.2.2.1 _ hl) (f9 _ _ C.2.2.2.2.1 _ hi) hst hcf (by rw [C.2.2.2.2.2.2.2.2.2.2.2.2.2.2.1]; exact hin) (by rw [q2]; exact h6) q1 q3 (by rw [hsl]; exact k2_hasslot (q4 k f5)) rfl rfl hdg fun H1 e1 e2 e3 => ?_
  rw [hsl] at e1 ⊢
  exact kk _ h3 H1 _ cells slots ls (j_putW hW C.2.2.2.2.1 C.2.2.2.2.2.2.2.1 h9 f1 f2 f3 f4 f5 h1 q1 q2 q3 q4 e1 e2 e3) (by rw [e2]; exact hz) (fun q hq => (List.mem_append.mp hq).elim (hL q) (fun hq => by rw [List.mem_singleton.mp hq]; exact hja.2)) hls
end JM
