/-! LISTS: the classes, arrays, statics, texts that the worlds speak of -/
def TX_0 : u_T := fun _ => ("", "", "", false)
def jcl : List vw_C := [(RX0, TX0, 24), (RX2, TX2, 6), (RX3, TX3, 6), (RJ2, TJ2, 3), (RX7, TX7, 8), (RX8, TX8, 3), (RX4, TX4, 1), (RX6, TX6, 7), (RX5, TX5, 53), (RX12, TX_0, 0), (RX9, TX_0, 0), (RX10, TX_0, 0), (RX13, TX_0, 0), (RX11, TX_0, 0), (RJ5, TJ5, 2)]
def jty : List FieldType := [.int, .byte, .short, .boolean, .object "java/lang/Object", .object "Samovar$Text", .array .int, .array (.array .int), .object "Samovar$Guest", .object "Samovar$Sheet", .object "Samovar$Fuel", .object "Samovar$Taste", .object "java/lang/Object", .byte, .int]
def jxwB : Cond → Bool
  | .methodLinkNest _ _ _ _ => true
  | .fieldLinkNest _ _ _ _ _ _ => true
  | .castable _ _ => true
  | .declares _ => true
  | .arrayOver (.object _) => true
  | .arrayOver (.array _) => true
  | _ => false
/-- private methods of Samovar$Text, chosen at objects of its subclasses -/
def jsel : List Cond := [.selects "Samovar$Woodpile" ⟨"Samovar$Text", "next", "()V"⟩ ⟨"Samovar$Text", "next", "()V"⟩, .selects "Samovar$Woodpile" ⟨"Samovar$Text", "reads", "()I"⟩ ⟨"Samovar$Text", "reads", "()I"⟩, .selects "Samovar$Company" ⟨"Samovar$Text", "next", "()V"⟩ ⟨"Samovar$Text", "next", "()V"⟩, .selects "Samovar$Company" ⟨"Samovar$Text", "reads", "()I"⟩ ⟨"Samovar$Text", "reads", "()I"⟩]
def jxw : List Cond := jsel ++ lw_tbl.filter jxwB
theorem jx_g {w : Cond} (h : w ∈ lw_tbl) (g : jxwB w = true) : w ∈ jxw := List.mem_append_right _ (List.mem_filter.mpr ⟨h, g⟩)
theorem jx_s {w : Cond} (i : Nat) (h : jsel[i]? = some w) : w ∈ jxw := List.mem_append_left _ (List.mem_of_getElem? h)
def jstr : List (String × Nat × String) := [("Samovar$Text", 41, "abcdefghijklmnopqrstuvwx"), ("Samovar$Text", 56, ";"), ("Samovar$Woodpile", 29, "kbc"), ("Samovar$Woodpile", 37, "123"), ("Samovar$Company", 29, "wd"), ("Samovar$Company", 37, "1234")]
def jnc : List (String × String) := [("java/lang/ArrayIndexOutOfBoundsException", "java/lang/ClassCastException"), ("[B", "[S"), ("[B", "[I"), ("[S", "[B"), ("[S", "[I"), ("[I", "[B"), ("[I", "[S")]
def jst : List (String × String × String) := [("Samovar", "FUEL", "[LSamovar$Fuel;"), ("Samovar", "TASTE", "[LSamovar$Taste;"), ("java/util/ArrayList", "DEFAULTCAPACITY_EMPTY_ELEMENTDATA", "[Ljava/lang/Object;"), ("java/lang/String", "COMPACT_STRINGS", "Z"), ("java/lang/Throwable", "UNASSIGNED_STACK", "[Ljava/lang/StackTraceElement;"), ("java/lang/Throwable", "SUPPRESSED_SENTINEL", "Ljava/util/List;")]
theorem jxw_warmO {ty : FieldType} {s U : State} (hW : s.WarmedH U.vm) (hb : jxwB (.arrayOver ty) = true) (h : va_Nw (.arrayOver ty) s) : va_Nw (.arrayOver ty) U := by
  cases ty <;> first
    | exact va_AO.moved hW.alike h
    | exact over_moved hW.alike h
    | cases hb
theorem jxw_warm {w : Cond} {s U : State} (hW : s.WarmedH U.vm) (hw : w ∈ jxw) (h : va_Nw w s) : va_Nw w U := by
  rcases List.mem_append.mp hw with hw | hw
  · have hg : (w.onTables && w.keeps) = true := by
      have h2 : (jsel.all fun w => w.onTables && w.keeps) = true := by decide +kernel
      exact List.all_eq_true.mp h2 w hw
    exact word_at hW (Or.inl hg) h
  have hb : jxwB w = true := (List.mem_filter.mp hw).2
  clear hw
  cases w <;> first
    | exact va_Nw.warmM hW h
    | exact va_Nw.warmF hW h
    | exact va_Nw.warmC hW h
    | exact va_Nw.warmD hW h
    | exact jxw_warmO hW hb h
    | cases hb
