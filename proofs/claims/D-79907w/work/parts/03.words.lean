set_option maxRecDepth 100000
theorem q93 : (Jvm.Cond.initialized "SamovarLaw") ∈ lw_all := lw_g (lw_at lw_m1 0 rfl) rfl
theorem q94 : (Jvm.Cond.initialized "Samovar") ∈ lw_all := lw_g (lw_at lw_m1 1 rfl) rfl
theorem q95 : (Jvm.Cond.initialized "Samovar$Text") ∈ lw_all := lw_g (lw_at lw_m1 2 rfl) rfl
theorem q96 : (Jvm.Cond.initialized "Samovar$Woodpile") ∈ lw_all := lw_g (lw_at lw_m1 3 rfl) rfl
theorem q97 : (Jvm.Cond.initialized "java/util/AbstractCollection") ∈ lw_all := lw_g (lw_at lw_m1 4 rfl) rfl
theorem q98 : (Jvm.Cond.initialized "java/util/AbstractList") ∈ lw_all := lw_g (lw_at lw_m1 5 rfl) rfl
theorem q99 : (Jvm.Cond.initialized "java/util/ArrayList") ∈ lw_all := lw_g (lw_at lw_m1 6 rfl) rfl
theorem q100 : (Jvm.Cond.initialized "Samovar$Company") ∈ lw_all := lw_g (lw_at lw_m1 7 rfl) rfl
theorem q101 : (Jvm.Cond.initialized "Samovar$Sheet") ∈ lw_all := lw_g (lw_at lw_m1 8 rfl) rfl
theorem q102 : (Jvm.Cond.initialized "SamovarModel") ∈ lw_all := lw_g (lw_at lw_m1 9 rfl) rfl
theorem q103 : (Jvm.Cond.initialized "java/lang/Throwable") ∈ lw_all := lw_g (lw_at lw_m1 10 rfl) rfl
theorem q104 : (Jvm.Cond.initialized "java/lang/Exception") ∈ lw_all := lw_g (lw_at lw_m1 11 rfl) rfl
theorem q105 : (Jvm.Cond.initialized "Samovar$Torn") ∈ lw_all := lw_g (lw_at lw_m1 12 rfl) rfl
theorem q106 : (Jvm.Cond.initialized "java/lang/String") ∈ lw_all := lw_g (lw_at lw_m1 13 rfl) rfl
theorem q107 : (Jvm.Cond.initialized "java/lang/StringLatin1") ∈ lw_all := lw_g (lw_at lw_m1 14 rfl) rfl
theorem q108 : (Jvm.Cond.initialized "java/lang/Math") ∈ lw_all := lw_g (lw_at lw_m1 15 rfl) rfl
theorem q109 : (Jvm.Cond.initialized "java/lang/StringUTF16") ∈ lw_all := lw_g (lw_at lw_m1 16 rfl) rfl
theorem q110 : (Jvm.Cond.initialized "jdk/internal/util/Preconditions") ∈ lw_all := lw_g (lw_at lw_m1 17 rfl) rfl
theorem q111 : (Jvm.Cond.initialized "java/lang/Character") ∈ lw_all := lw_g (lw_at lw_m1 18 rfl) rfl
theorem q112 : (Jvm.Cond.initialized "Samovar$Guest") ∈ lw_all := lw_g (lw_at lw_m1 19 rfl) rfl
theorem q113 : (Jvm.Cond.initialized "jdk/internal/util/ArraysSupport") ∈ lw_all := lw_g (lw_at lw_m1 20 rfl) rfl
theorem q114 : (Jvm.Cond.initialized "java/util/Arrays") ∈ lw_all := lw_g (lw_at lw_m1 21 rfl) rfl
theorem q115 : (Jvm.Cond.initialized "java/lang/System") ∈ lw_all := lw_g (lw_at lw_m1 22 rfl) rfl
theorem q116 : (Jvm.Cond.initialized "Samovar$Piece") ∈ lw_all := lw_g (lw_at lw_m1 23 rfl) rfl
theorem q117 : (Jvm.Cond.initialized "java/util/Objects") ∈ lw_all := lw_g (lw_at lw_m1 24 rfl) rfl
theorem q118 : (Jvm.Cond.initialized "java/lang/RuntimeException") ∈ lw_all := lw_g (lw_at lw_m1 25 rfl) rfl
theorem q119 : (Jvm.Cond.initialized "java/lang/NegativeArraySizeException") ∈ lw_all := lw_g (lw_at lw_m1 26 rfl) rfl
theorem q120 : (Jvm.Cond.initialized "java/lang/ClassCastException") ∈ lw_all := lw_g (lw_at lw_m1 27 rfl) rfl
theorem q121 : (Jvm.Cond.initialized "java/lang/IndexOutOfBoundsException") ∈ lw_all := lw_g (lw_at lw_m1 28 rfl) rfl
theorem q122 : (Jvm.Cond.initialized "java/lang/ArrayIndexOutOfBoundsException") ∈ lw_all := lw_g (lw_at lw_m1 29 rfl) rfl
theorem q123 : (Jvm.Cond.classLink "SamovarLaw" (7 : Nat) "Samovar") ∈ lw_all := lw_g (lw_at lw_m1 30 rfl) rfl
theorem q124 : (Jvm.Cond.instantiable "Samovar" (24 : Nat)) ∈ lw_all := lw_g (lw_at lw_m1 31 rfl) rfl
theorem q125 : (Jvm.Cond.methodLink "SamovarLaw" (9 : Nat) ({ cls := "Samovar", name := "<init>", desc := "()V" } : Jvm.MethodName)) ∈ lw_all := lw_g (lw_at lw_m1 32 rfl) rfl
theorem q126 : (Jvm.Cond.instanceMethod ({ cls := "Samovar", name := "<init>", desc := "()V" } : Jvm.MethodName)) ∈ lw_all := lw_g (lw_at lw_m1 33 rfl) rfl
theorem q127 : (Jvm.Cond.code ({ cls := "Samovar", name := "<init>", desc := "()V" } : Jvm.MethodName) prog_1_method_1_code (1 : Nat) (Option.none : Option Jvm.ClassFile.FieldType)) ∈ lw_all := lw_g (lw_at lw_m1 34 rfl) rfl
theorem q128 : (Jvm.Cond.methodLink "Samovar" (5 : Nat) ({ cls := "java/lang/Object", name := "<init>", desc := "()V" } : Jvm.MethodName)) ∈ lw_all := lw_g (lw_at lw_m1 35 rfl) rfl
theorem q129 : (Jvm.Cond.instanceMethod ({ cls := "java/lang/Object", name := "<init>", desc := "()V" } : Jvm.MethodName)) ∈ lw_all := lw_g (lw_at lw_m1 36 rfl) rfl
theorem q130 : (Jvm.Cond.code ({ cls := "java/lang/Object", name := "<init>", desc := "()V" } : Jvm.MethodName) object_method_1_code (1 : Nat) (Option.none : Option Jvm.ClassFile.FieldType)) ∈ lw_all := lw_g (lw_at lw_m1 37 rfl) rfl
theorem q131 : (Jvm.Cond.classLink "Samovar" (11 : Nat) "Samovar$Woodpile") ∈ lw_all := lw_g (lw_at lw_m1 38 rfl) rfl
theorem q132 : (Jvm.Cond.instantiable "Samovar$Woodpile" (6 : Nat)) ∈ lw_all := lw_g (lw_at lw_m1 39 rfl) rfl
theorem q133 : (Jvm.Cond.methodLinkNest "Samovar" (13 : Nat) ({ cls := "Samovar$Woodpile", name := "<init>", desc := "()V" } : Jvm.MethodName) "Samovar") ∈ lw_tbl := lw_at lw_m1 40 rfl
theorem q134 : (Jvm.Cond.instanceMethod ({ cls := "Samovar$Woodpile", name := "<init>", desc := "()V" } : Jvm.MethodName)) ∈ lw_all := lw_g (lw_at lw_m1 41 rfl) rfl
theorem q135 : (Jvm.Cond.code ({ cls := "Samovar$Woodpile", name := "<init>", desc := "()V" } : Jvm.MethodName) prog_13_method_1_code (1 : Nat) (Option.none : Option Jvm.ClassFile.FieldType)) ∈ lw_all := lw_g (lw_at lw_m1 42 rfl) rfl
theorem q136 : (Jvm.Cond.methodLinkNest "Samovar$Woodpile" (1 : Nat) ({ cls := "Samovar$Text", name := "<init>", desc := "()V" } : Jvm.MethodName) "Samovar") ∈ lw_tbl := lw_at lw_m1 43 rfl
theorem q137 : (Jvm.Cond.instanceMethod ({ cls := "Samovar$Text", name := "<init>", desc := "()V" } : Jvm.MethodName)) ∈ lw_all := lw_g (lw_at lw_m1 44 rfl) rfl
theorem q138 : (Jvm.Cond.code ({ cls := "Samovar$Text", name := "<init>", desc := "()V" } : Jvm.MethodName) prog_11_method_1_code (1 : Nat) (Option.none : Option Jvm.ClassFile.FieldType)) ∈ lw_all := lw_g (lw_at lw_m1 45 rfl) rfl
theorem q139 : (Jvm.Cond.methodLink "Samovar$Text" (3 : Nat) ({ cls := "java/lang/Object", name := "<init>", desc := "()V" } : Jvm.MethodName)) ∈ lw_all := lw_g (lw_at lw_m1 46 rfl) rfl
theorem q140 : (Jvm.Cond.classLink "Samovar$Woodpile" (7 : Nat) "java/util/ArrayList") ∈ lw_all := lw_g (lw_at lw_m1 47 rfl) rfl
theorem q141 : (Jvm.Cond.instantiable "java/util/ArrayList" (3 : Nat)) ∈ lw_all := lw_g (lw_at lw_m1 48 rfl) rfl
theorem q142 : (Jvm.Cond.methodLink "Samovar$Woodpile" (9 : Nat) ({ cls := "java/util/ArrayList", name := "<init>", desc := "()V" } : Jvm.MethodName)) ∈ lw_all := lw_g (lw_at lw_m1 49 rfl) rfl
theorem q143 : (Jvm.Cond.instanceMethod ({ cls := "java/util/ArrayList", name := "<init>", desc := "()V" } : Jvm.MethodName)) ∈ lw_all := lw_g (lw_at lw_m1 50 rfl) rfl
theorem q144 : (Jvm.Cond.code ({ cls := "java/util/ArrayList", name := "<init>", desc := "()V" } : Jvm.MethodName) prog_38_method_2_code (1 : Nat) (Option.none : Option Jvm.ClassFile.FieldType)) ∈ lw_all := lw_g (lw_at lw_m1 51 rfl) rfl
theorem q145 : (Jvm.Cond.methodLink "java/util/ArrayList" (1 : Nat) ({ cls := "java/util/AbstractList", name := "<init>", desc := "()V" } : Jvm.MethodName)) ∈ lw_all := lw_g (lw_at lw_m1 52 rfl) rfl
theorem q146 : (Jvm.Cond.instanceMethod ({ cls := "java/util/AbstractList", name := "<init>", desc := "()V" } : Jvm.MethodName)) ∈ lw_all := lw_g (lw_at lw_m1 53 rfl) rfl
theorem q147 : (Jvm.Cond.code ({ cls := "java/util/AbstractList", name := "<init>", desc := "()V" } : Jvm.MethodName) prog_37_method_1_code (1 : Nat) (Option.none : Option Jvm.ClassFile.FieldType)) ∈ lw_all := lw_g (lw_at lw_m1 54 rfl) rfl
theorem q148 : (Jvm.Cond.methodLink "java/util/AbstractList" (1 : Nat) ({ cls := "java/util/AbstractCollection", name := "<init>", desc := "()V" } : Jvm.MethodName)) ∈ lw_all := lw_g (lw_at lw_m1 55 rfl) rfl
theorem q149 : (Jvm.Cond.instanceMethod ({ cls := "java/util/AbstractCollection", name := "<init>", desc := "()V" } : Jvm.MethodName)) ∈ lw_all := lw_g (lw_at lw_m1 56 rfl) rfl
theorem q150 : (Jvm.Cond.code ({ cls := "java/util/AbstractCollection", name := "<init>", desc := "()V" } : Jvm.MethodName) prog_36_method_1_code (1 : Nat) (Option.none : Option Jvm.ClassFile.FieldType)) ∈ lw_all := lw_g (lw_at lw_m1 57 rfl) rfl
theorem q151 : (Jvm.Cond.methodLink "java/util/AbstractCollection" (1 : Nat) ({ cls := "java/lang/Object", name := "<init>", desc := "()V" } : Jvm.MethodName)) ∈ lw_all := lw_g (lw_at lw_m1 58 rfl) rfl
theorem q152 : (Jvm.Cond.fieldLink "java/util/ArrayList" (39 : Nat) "java/util/ArrayList" "DEFAULTCAPACITY_EMPTY_ELEMENTDATA" "[Ljava/lang/Object;") ∈ lw_all := lw_g (lw_at lw_m1 59 rfl) rfl
theorem q153 : (Jvm.Cond.laysStatic "java/util/ArrayList" "DEFAULTCAPACITY_EMPTY_ELEMENTDATA" "[Ljava/lang/Object;") ∈ lw_tbl := lw_at lw_m1 60 rfl
theorem q154 : (Jvm.Cond.fieldLink "java/util/ArrayList" (9 : Nat) "java/util/ArrayList" "elementData" "[Ljava/lang/Object;") ∈ lw_all := lw_g (lw_at lw_m1 61 rfl) rfl
theorem q155 : (Jvm.Cond.fieldLink "java/util/ArrayList" (48 : Nat) "java/util/ArrayList" "size" "I") ∈ lw_all := lw_g (lw_at lw_m1 62 rfl) rfl
theorem q156 : (Jvm.Cond.fieldLink "java/util/AbstractList" (7 : Nat) "java/util/AbstractList" "modCount" "I") ∈ lw_all := lw_g (lw_at lw_m1 63 rfl) rfl
theorem q157 : (Jvm.Cond.fieldLink "java/util/ArrayList" (63 : Nat) "java/util/ArrayList" "modCount" "I") ∈ lw_all := lw_g (lw_at lw_m1 64 rfl) rfl
theorem q158 : (Jvm.Cond.sameField "java/util/ArrayList" "java/util/AbstractList" "modCount" "I") ∈ lw_all := lw_g (lw_at lw_m1 65 rfl) rfl
theorem q159 : (Jvm.Cond.lays "java/util/ArrayList" "java/util/ArrayList" "elementData" "[Ljava/lang/Object;") ∈ lw_all := lw_g (lw_at lw_m1 66 rfl) rfl
theorem q160 : (Jvm.Cond.soleField "java/util/ArrayList" "elementData") ∈ lw_all := lw_g (lw_at lw_m1 67 rfl) rfl
theorem q161 : (Jvm.Cond.lays "java/util/ArrayList" "java/util/ArrayList" "size" "I") ∈ lw_all := lw_g (lw_at lw_m1 68 rfl) rfl
theorem q162 : (Jvm.Cond.soleField "java/util/ArrayList" "size") ∈ lw_all := lw_g (lw_at lw_m1 69 rfl) rfl
theorem q163 : (Jvm.Cond.lays "java/util/ArrayList" "java/util/AbstractList" "modCount" "I") ∈ lw_all := lw_g (lw_at lw_m1 70 rfl) rfl
theorem q164 : (Jvm.Cond.soleField "java/util/AbstractList" "modCount") ∈ lw_all := lw_g (lw_at lw_m1 71 rfl) rfl
theorem q165 : (Jvm.Cond.superclass "java/util/ArrayList" "java/util/AbstractList") ∈ lw_all := lw_g (lw_at lw_m1 72 rfl) rfl
theorem q166 : (Jvm.Cond.arrayClass Jvm.ClassFile.FieldType.byte) ∈ lw_all := lw_g (lw_at lw_m1 73 rfl) rfl
theorem q167 : (Jvm.Cond.fieldLink "Samovar$Woodpile" (10 : Nat) "Samovar$Woodpile" "all" "Ljava/util/ArrayList;") ∈ lw_all := lw_g (lw_at lw_m1 74 rfl) rfl
theorem q168 : (Jvm.Cond.fieldLink "Samovar" (122 : Nat) "Samovar$Woodpile" "all" "Ljava/util/ArrayList;") ∈ lw_all := lw_g (lw_at lw_m1 75 rfl) rfl
theorem q169 : (Jvm.Cond.fieldLink "Samovar$Text" (9 : Nat) "Samovar$Text" "bytes" "[B") ∈ lw_all := lw_g (lw_at lw_m1 76 rfl) rfl
theorem q170 : (Jvm.Cond.fieldLink "Samovar$Text" (15 : Nat) "Samovar$Text" "typed" "I") ∈ lw_all := lw_g (lw_at lw_m1 77 rfl) rfl
theorem q171 : (Jvm.Cond.fieldLink "Samovar$Text" (23 : Nat) "Samovar$Text" "at" "I") ∈ lw_all := lw_g (lw_at lw_m1 78 rfl) rfl
theorem q172 : (Jvm.Cond.fieldLink "Samovar$Text" (19 : Nat) "Samovar$Text" "fresh" "Z") ∈ lw_all := lw_g (lw_at lw_m1 79 rfl) rfl
theorem q173 : (Jvm.Cond.fieldLink "Samovar$Text" (64 : Nat) "Samovar$Text" "fault" "I") ∈ lw_all := lw_g (lw_at lw_m1 80 rfl) rfl
theorem q174 : (Jvm.Cond.laysFinal "Samovar$Woodpile" "Samovar$Woodpile" "all" "Ljava/util/ArrayList;") ∈ lw_all := lw_g (lw_at lw_m1 81 rfl) rfl
theorem q175 : (Jvm.Cond.soleField "Samovar$Woodpile" "all") ∈ lw_all := lw_g (lw_at lw_m1 82 rfl) rfl
theorem q176 : (Jvm.Cond.laysFinal "Samovar$Woodpile" "Samovar$Text" "bytes" "[B") ∈ lw_all := lw_g (lw_at lw_m1 83 rfl) rfl
theorem q177 : (Jvm.Cond.soleField "Samovar$Text" "bytes") ∈ lw_all := lw_g (lw_at lw_m1 84 rfl) rfl
theorem q178 : (Jvm.Cond.lays "Samovar$Woodpile" "Samovar$Text" "typed" "I") ∈ lw_all := lw_g (lw_at lw_m1 85 rfl) rfl
theorem q179 : (Jvm.Cond.soleField "Samovar$Text" "typed") ∈ lw_all := lw_g (lw_at lw_m1 86 rfl) rfl
theorem q180 : (Jvm.Cond.lays "Samovar$Woodpile" "Samovar$Text" "at" "I") ∈ lw_all := lw_g (lw_at lw_m1 87 rfl) rfl
theorem q181 : (Jvm.Cond.soleField "Samovar$Text" "at") ∈ lw_all := lw_g (lw_at lw_m1 88 rfl) rfl
theorem q182 : (Jvm.Cond.lays "Samovar$Woodpile" "Samovar$Text" "fresh" "Z") ∈ lw_all := lw_g (lw_at lw_m1 89 rfl) rfl
theorem q183 : (Jvm.Cond.soleField "Samovar$Text" "fresh") ∈ lw_all := lw_g (lw_at lw_m1 90 rfl) rfl
theorem q184 : (Jvm.Cond.lays "Samovar$Woodpile" "Samovar$Text" "fault" "I") ∈ lw_all := lw_g (lw_at lw_m1 91 rfl) rfl
theorem q185 : (Jvm.Cond.soleField "Samovar$Text" "fault") ∈ lw_all := lw_g (lw_at lw_m1 92 rfl) rfl
theorem q186 : (Jvm.Cond.superclass "Samovar$Woodpile" "Samovar$Text") ∈ lw_all := lw_g (lw_at lw_m1 93 rfl) rfl
theorem q187 : (Jvm.Cond.classLink "Samovar" (20 : Nat) "Samovar$Company") ∈ lw_all := lw_g (lw_at lw_m1 94 rfl) rfl
theorem q188 : (Jvm.Cond.instantiable "Samovar$Company" (6 : Nat)) ∈ lw_all := lw_g (lw_at lw_m1 95 rfl) rfl
theorem q189 : (Jvm.Cond.methodLinkNest "Samovar" (22 : Nat) ({ cls := "Samovar$Company", name := "<init>", desc := "()V" } : Jvm.MethodName) "Samovar") ∈ lw_tbl := lw_at lw_m1 96 rfl
theorem q190 : (Jvm.Cond.instanceMethod ({ cls := "Samovar$Company", name := "<init>", desc := "()V" } : Jvm.MethodName)) ∈ lw_all := lw_g (lw_at lw_m1 97 rfl) rfl
theorem q191 : (Jvm.Cond.code ({ cls := "Samovar$Company", name := "<init>", desc := "()V" } : Jvm.MethodName) prog_4_method_1_code (1 : Nat) (Option.none : Option Jvm.ClassFile.FieldType)) ∈ lw_all := lw_g (lw_at lw_m1 98 rfl) rfl
theorem q192 : (Jvm.Cond.methodLinkNest "Samovar$Company" (1 : Nat) ({ cls := "Samovar$Text", name := "<init>", desc := "()V" } : Jvm.MethodName) "Samovar") ∈ lw_tbl := lw_at lw_m1 99 rfl
theorem q193 : (Jvm.Cond.classLink "Samovar$Company" (7 : Nat) "java/util/ArrayList") ∈ lw_all := lw_g (lw_at lw_m1 100 rfl) rfl
theorem q194 : (Jvm.Cond.methodLink "Samovar$Company" (9 : Nat) ({ cls := "java/util/ArrayList", name := "<init>", desc := "()V" } : Jvm.MethodName)) ∈ lw_all := lw_g (lw_at lw_m1 101 rfl) rfl
theorem q195 : (Jvm.Cond.fieldLink "Samovar$Company" (10 : Nat) "Samovar$Company" "all" "Ljava/util/ArrayList;") ∈ lw_all := lw_g (lw_at lw_m1 102 rfl) rfl
theorem q196 : (Jvm.Cond.fieldLink "Samovar" (33 : Nat) "Samovar$Company" "all" "Ljava/util/ArrayList;") ∈ lw_all := lw_g (lw_at lw_m1 103 rfl) rfl
theorem q197 : (Jvm.Cond.laysFinal "Samovar$Company" "Samovar$Company" "all" "Ljava/util/ArrayList;") ∈ lw_all := lw_g (lw_at lw_m1 104 rfl) rfl
theorem q198 : (Jvm.Cond.soleField "Samovar$Company" "all") ∈ lw_all := lw_g (lw_at lw_m1 105 rfl) rfl
theorem q199 : (Jvm.Cond.laysFinal "Samovar$Company" "Samovar$Text" "bytes" "[B") ∈ lw_all := lw_g (lw_at lw_m1 106 rfl) rfl
theorem q200 : (Jvm.Cond.lays "Samovar$Company" "Samovar$Text" "typed" "I") ∈ lw_all := lw_g (lw_at lw_m1 107 rfl) rfl
theorem q201 : (Jvm.Cond.lays "Samovar$Company" "Samovar$Text" "at" "I") ∈ lw_all := lw_g (lw_at lw_m1 108 rfl) rfl
theorem q202 : (Jvm.Cond.lays "Samovar$Company" "Samovar$Text" "fresh" "Z") ∈ lw_all := lw_g (lw_at lw_m1 109 rfl) rfl
theorem q203 : (Jvm.Cond.lays "Samovar$Company" "Samovar$Text" "fault" "I") ∈ lw_all := lw_g (lw_at lw_m1 110 rfl) rfl
theorem q204 : (Jvm.Cond.superclass "Samovar$Company" "Samovar$Text") ∈ lw_all := lw_g (lw_at lw_m1 111 rfl) rfl
theorem q205 : (Jvm.Cond.classLink "Samovar" (27 : Nat) "Samovar$Text") ∈ lw_all := lw_g (lw_at lw_m1 112 rfl) rfl
theorem q206 : (Jvm.Cond.arrayOver (Jvm.ClassFile.FieldType.object "Samovar$Text")) ∈ lw_tbl := lw_at lw_m1 113 rfl
theorem q207 : (Jvm.Cond.classLink "Samovar" (44 : Nat) "java/util/ArrayList") ∈ lw_all := lw_g (lw_at lw_m1 114 rfl) rfl
theorem q208 : (Jvm.Cond.methodLink "Samovar" (46 : Nat) ({ cls := "java/util/ArrayList", name := "<init>", desc := "()V" } : Jvm.MethodName)) ∈ lw_all := lw_g (lw_at lw_m1 115 rfl) rfl
theorem q209 : (Jvm.Cond.classLink "Samovar" (53 : Nat) "[[I") ∈ lw_all := lw_g (lw_at lw_m1 116 rfl) rfl
theorem q210 : (Jvm.Cond.arrayOver (Jvm.ClassFile.FieldType.array Jvm.ClassFile.FieldType.int)) ∈ lw_tbl := lw_at lw_m1 117 rfl
theorem q211 : (Jvm.Cond.classLink "Samovar" (61 : Nat) "[[[I") ∈ lw_all := lw_g (lw_at lw_m1 118 rfl) rfl
theorem q212 : (Jvm.Cond.arrayOver (Jvm.ClassFile.FieldType.array (Jvm.ClassFile.FieldType.array Jvm.ClassFile.FieldType.int))) ∈ lw_tbl := lw_at lw_m1 119 rfl
theorem q213 : (Jvm.Cond.classLink "Samovar" (75 : Nat) "Samovar$Guest") ∈ lw_all := lw_g (lw_at lw_m1 120 rfl) rfl
theorem q214 : (Jvm.Cond.arrayOver (Jvm.ClassFile.FieldType.object "Samovar$Guest")) ∈ lw_tbl := lw_at lw_m1 121 rfl
theorem q215 : (Jvm.Cond.classLink "Samovar" (81 : Nat) "Samovar$Sheet") ∈ lw_all := lw_g (lw_at lw_m1 122 rfl) rfl
theorem q216 : (Jvm.Cond.arrayOver (Jvm.ClassFile.FieldType.object "Samovar$Sheet")) ∈ lw_tbl := lw_at lw_m1 123 rfl
theorem q217 : (Jvm.Cond.instantiable "Samovar$Sheet" (1 : Nat)) ∈ lw_all := lw_g (lw_at lw_m1 124 rfl) rfl
theorem q218 : (Jvm.Cond.methodLinkNest "Samovar" (83 : Nat) ({ cls := "Samovar$Sheet", name := "<init>", desc := "()V" } : Jvm.MethodName) "Samovar") ∈ lw_tbl := lw_at lw_m1 125 rfl
theorem q219 : (Jvm.Cond.instanceMethod ({ cls := "Samovar$Sheet", name := "<init>", desc := "()V" } : Jvm.MethodName)) ∈ lw_all := lw_g (lw_at lw_m1 126 rfl) rfl
theorem q220 : (Jvm.Cond.code ({ cls := "Samovar$Sheet", name := "<init>", desc := "()V" } : Jvm.MethodName) prog_9_method_1_code (1 : Nat) (Option.none : Option Jvm.ClassFile.FieldType)) ∈ lw_all := lw_g (lw_at lw_m1 127 rfl) rfl
theorem q221 : (Jvm.Cond.methodLink "Samovar$Sheet" (1 : Nat) ({ cls := "java/lang/Object", name := "<init>", desc := "()V" } : Jvm.MethodName)) ∈ lw_all := lw_g (lw_at lw_m1 128 rfl) rfl
theorem q222 : (Jvm.Cond.fieldLink "Samovar$Sheet" (7 : Nat) "Samovar$Sheet" "row" "Ljava/lang/Object;") ∈ lw_all := lw_g (lw_at lw_m1 129 rfl) rfl
theorem q223 : (Jvm.Cond.fieldLinkNest "Samovar" (174 : Nat) "Samovar$Sheet" "row" "Ljava/lang/Object;" "Samovar") ∈ lw_tbl := lw_at lw_m1 130 rfl
theorem q224 : (Jvm.Cond.lays "Samovar$Sheet" "Samovar$Sheet" "row" "Ljava/lang/Object;") ∈ lw_all := lw_g (lw_at lw_m1 131 rfl) rfl
theorem q225 : (Jvm.Cond.soleField "Samovar$Sheet" "row") ∈ lw_all := lw_g (lw_at lw_m1 132 rfl) rfl
theorem q226 : (Jvm.Cond.superclass "Samovar$Sheet" "java/lang/Object") ∈ lw_all := lw_g (lw_at lw_m1 133 rfl) rfl
theorem q227 : (Jvm.Cond.arrayClass Jvm.ClassFile.FieldType.int) ∈ lw_all := lw_g (lw_at lw_m1 134 rfl) rfl
theorem q228 : (Jvm.Cond.fieldLink "Samovar" (90 : Nat) "Samovar" "latest" "I") ∈ lw_all := lw_g (lw_at lw_m1 135 rfl) rfl
theorem q229 : (Jvm.Cond.fieldLink "Samovar" (14 : Nat) "Samovar" "woodpile" "LSamovar$Woodpile;") ∈ lw_all := lw_g (lw_at lw_m1 136 rfl) rfl
theorem q230 : (Jvm.Cond.fieldLink "Samovar" (23 : Nat) "Samovar" "company" "LSamovar$Company;") ∈ lw_all := lw_g (lw_at lw_m1 137 rfl) rfl
theorem q231 : (Jvm.Cond.fieldLink "Samovar" (29 : Nat) "Samovar" "texts" "[LSamovar$Text;") ∈ lw_all := lw_g (lw_at lw_m1 138 rfl) rfl
theorem q232 : (Jvm.Cond.fieldLink "Samovar" (37 : Nat) "Samovar" "guests" "Ljava/util/ArrayList;") ∈ lw_all := lw_g (lw_at lw_m1 139 rfl) rfl
theorem q233 : (Jvm.Cond.fieldLink "Samovar" (40 : Nat) "Samovar" "settings" "[I") ∈ lw_all := lw_g (lw_at lw_m1 140 rfl) rfl
theorem q234 : (Jvm.Cond.fieldLink "Samovar" (47 : Nat) "Samovar" "events" "Ljava/util/ArrayList;") ∈ lw_all := lw_g (lw_at lw_m1 141 rfl) rfl
theorem q235 : (Jvm.Cond.fieldLink "Samovar" (212 : Nat) "Samovar" "heat" "I") ∈ lw_all := lw_g (lw_at lw_m1 142 rfl) rfl
theorem q236 : (Jvm.Cond.fieldLink "Samovar" (204 : Nat) "Samovar" "water" "I") ∈ lw_all := lw_g (lw_at lw_m1 143 rfl) rfl
theorem q237 : (Jvm.Cond.fieldLink "Samovar" (218 : Nat) "Samovar" "brew" "I") ∈ lw_all := lw_g (lw_at lw_m1 144 rfl) rfl
theorem q238 : (Jvm.Cond.fieldLink "Samovar" (257 : Nat) "Samovar" "steamed" "I") ∈ lw_all := lw_g (lw_at lw_m1 145 rfl) rfl
theorem q239 : (Jvm.Cond.fieldLink "Samovar" (237 : Nat) "Samovar" "served" "I") ∈ lw_all := lw_g (lw_at lw_m1 146 rfl) rfl
theorem q240 : (Jvm.Cond.fieldLink "Samovar" (192 : Nat) "Samovar" "boot" "Z") ∈ lw_all := lw_g (lw_at lw_m1 147 rfl) rfl
theorem q241 : (Jvm.Cond.fieldLink "Samovar" (50 : Nat) "Samovar" "queue" "Ljava/util/ArrayList;") ∈ lw_all := lw_g (lw_at lw_m1 148 rfl) rfl
theorem q242 : (Jvm.Cond.fieldLink "Samovar" (55 : Nat) "Samovar" "byMinute" "[[I") ∈ lw_all := lw_g (lw_at lw_m1 149 rfl) rfl
theorem q243 : (Jvm.Cond.fieldLink "Samovar" (58 : Nat) "Samovar" "lineBy" "[I") ∈ lw_all := lw_g (lw_at lw_m1 150 rfl) rfl
theorem q244 : (Jvm.Cond.fieldLink "Samovar" (63 : Nat) "Samovar" "byGuest" "[[[I") ∈ lw_all := lw_g (lw_at lw_m1 151 rfl) rfl
theorem q245 : (Jvm.Cond.fieldLink "Samovar" (197 : Nat) "Samovar" "gone" "I") ∈ lw_all := lw_g (lw_at lw_m1 152 rfl) rfl
theorem q246 : (Jvm.Cond.fieldLink "Samovar" (66 : Nat) "Samovar" "seen" "Ljava/util/ArrayList;") ∈ lw_all := lw_g (lw_at lw_m1 153 rfl) rfl
theorem q247 : (Jvm.Cond.fieldLink "Samovar" (69 : Nat) "Samovar" "boils" "[I") ∈ lw_all := lw_g (lw_at lw_m1 154 rfl) rfl
theorem q248 : (Jvm.Cond.fieldLink "Samovar" (381 : Nat) "Samovar" "drawn" "I") ∈ lw_all := lw_g (lw_at lw_m1 155 rfl) rfl
theorem q249 : (Jvm.Cond.fieldLink "Samovar" (72 : Nat) "Samovar" "others" "Ljava/util/ArrayList;") ∈ lw_all := lw_g (lw_at lw_m1 156 rfl) rfl
theorem q250 : (Jvm.Cond.fieldLink "Samovar" (77 : Nat) "Samovar" "strangers" "[LSamovar$Guest;") ∈ lw_all := lw_g (lw_at lw_m1 157 rfl) rfl
theorem q251 : (Jvm.Cond.fieldLink "Samovar" (84 : Nat) "Samovar" "sheets" "[LSamovar$Sheet;") ∈ lw_all := lw_g (lw_at lw_m1 158 rfl) rfl
theorem q252 : (Jvm.Cond.lays "Samovar" "Samovar" "latest" "I") ∈ lw_all := lw_g (lw_at lw_m1 159 rfl) rfl
theorem q253 : (Jvm.Cond.soleField "Samovar" "latest") ∈ lw_all := lw_g (lw_at lw_m1 160 rfl) rfl
theorem q254 : (Jvm.Cond.laysFinal "Samovar" "Samovar" "woodpile" "LSamovar$Woodpile;") ∈ lw_all := lw_g (lw_at lw_m1 161 rfl) rfl
theorem q255 : (Jvm.Cond.soleField "Samovar" "woodpile") ∈ lw_all := lw_g (lw_at lw_m1 162 rfl) rfl
theorem q256 : (Jvm.Cond.laysFinal "Samovar" "Samovar" "company" "LSamovar$Company;") ∈ lw_all := lw_g (lw_at lw_m1 163 rfl) rfl
theorem q257 : (Jvm.Cond.soleField "Samovar" "company") ∈ lw_all := lw_g (lw_at lw_m1 164 rfl) rfl
theorem q258 : (Jvm.Cond.laysFinal "Samovar" "Samovar" "texts" "[LSamovar$Text;") ∈ lw_all := lw_g (lw_at lw_m1 165 rfl) rfl
theorem q259 : (Jvm.Cond.soleField "Samovar" "texts") ∈ lw_all := lw_g (lw_at lw_m1 166 rfl) rfl
theorem q260 : (Jvm.Cond.lays "Samovar" "Samovar" "guests" "Ljava/util/ArrayList;") ∈ lw_all := lw_g (lw_at lw_m1 167 rfl) rfl
theorem q261 : (Jvm.Cond.soleField "Samovar" "guests") ∈ lw_all := lw_g (lw_at lw_m1 168 rfl) rfl
theorem q262 : (Jvm.Cond.laysFinal "Samovar" "Samovar" "settings" "[I") ∈ lw_all := lw_g (lw_at lw_m1 169 rfl) rfl
theorem q263 : (Jvm.Cond.soleField "Samovar" "settings") ∈ lw_all := lw_g (lw_at lw_m1 170 rfl) rfl
theorem q264 : (Jvm.Cond.laysFinal "Samovar" "Samovar" "events" "Ljava/util/ArrayList;") ∈ lw_all := lw_g (lw_at lw_m1 171 rfl) rfl
theorem q265 : (Jvm.Cond.soleField "Samovar" "events") ∈ lw_all := lw_g (lw_at lw_m1 172 rfl) rfl
theorem q266 : (Jvm.Cond.lays "Samovar" "Samovar" "heat" "I") ∈ lw_all := lw_g (lw_at lw_m1 173 rfl) rfl
theorem q267 : (Jvm.Cond.soleField "Samovar" "heat") ∈ lw_all := lw_g (lw_at lw_m1 174 rfl) rfl
theorem q268 : (Jvm.Cond.lays "Samovar" "Samovar" "water" "I") ∈ lw_all := lw_g (lw_at lw_m1 175 rfl) rfl
theorem q269 : (Jvm.Cond.soleField "Samovar" "water") ∈ lw_all := lw_g (lw_at lw_m1 176 rfl) rfl
theorem q270 : (Jvm.Cond.lays "Samovar" "Samovar" "brew" "I") ∈ lw_all := lw_g (lw_at lw_m1 177 rfl) rfl
theorem q271 : (Jvm.Cond.soleField "Samovar" "brew") ∈ lw_all := lw_g (lw_at lw_m1 178 rfl) rfl
theorem q272 : (Jvm.Cond.lays "Samovar" "Samovar" "steamed" "I") ∈ lw_all := lw_g (lw_at lw_m1 179 rfl) rfl
theorem q273 : (Jvm.Cond.soleField "Samovar" "steamed") ∈ lw_all := lw_g (lw_at lw_m1 180 rfl) rfl
theorem q274 : (Jvm.Cond.lays "Samovar" "Samovar" "served" "I") ∈ lw_all := lw_g (lw_at lw_m1 181 rfl) rfl
theorem q275 : (Jvm.Cond.soleField "Samovar" "served") ∈ lw_all := lw_g (lw_at lw_m1 182 rfl) rfl
theorem q276 : (Jvm.Cond.lays "Samovar" "Samovar" "boot" "Z") ∈ lw_all := lw_g (lw_at lw_m1 183 rfl) rfl
theorem q277 : (Jvm.Cond.soleField "Samovar" "boot") ∈ lw_all := lw_g (lw_at lw_m1 184 rfl) rfl
theorem q278 : (Jvm.Cond.laysFinal "Samovar" "Samovar" "queue" "Ljava/util/ArrayList;") ∈ lw_all := lw_g (lw_at lw_m1 185 rfl) rfl
theorem q279 : (Jvm.Cond.soleField "Samovar" "queue") ∈ lw_all := lw_g (lw_at lw_m1 186 rfl) rfl
theorem q280 : (Jvm.Cond.laysFinal "Samovar" "Samovar" "byMinute" "[[I") ∈ lw_all := lw_g (lw_at lw_m1 187 rfl) rfl
theorem q281 : (Jvm.Cond.soleField "Samovar" "byMinute") ∈ lw_all := lw_g (lw_at lw_m1 188 rfl) rfl
theorem q282 : (Jvm.Cond.laysFinal "Samovar" "Samovar" "lineBy" "[I") ∈ lw_all := lw_g (lw_at lw_m1 189 rfl) rfl
theorem q283 : (Jvm.Cond.soleField "Samovar" "lineBy") ∈ lw_all := lw_g (lw_at lw_m1 190 rfl) rfl
theorem q284 : (Jvm.Cond.laysFinal "Samovar" "Samovar" "byGuest" "[[[I") ∈ lw_all := lw_g (lw_at lw_m1 191 rfl) rfl
theorem q285 : (Jvm.Cond.soleField "Samovar" "byGuest") ∈ lw_all := lw_g (lw_at lw_m1 192 rfl) rfl
theorem q286 : (Jvm.Cond.lays "Samovar" "Samovar" "gone" "I") ∈ lw_all := lw_g (lw_at lw_m1 193 rfl) rfl
theorem q287 : (Jvm.Cond.soleField "Samovar" "gone") ∈ lw_all := lw_g (lw_at lw_m1 194 rfl) rfl
theorem q288 : (Jvm.Cond.laysFinal "Samovar" "Samovar" "seen" "Ljava/util/ArrayList;") ∈ lw_all := lw_g (lw_at lw_m1 195 rfl) rfl
theorem q289 : (Jvm.Cond.soleField "Samovar" "seen") ∈ lw_all := lw_g (lw_at lw_m1 196 rfl) rfl
theorem q290 : (Jvm.Cond.laysFinal "Samovar" "Samovar" "boils" "[I") ∈ lw_all := lw_g (lw_at lw_m1 197 rfl) rfl
theorem q291 : (Jvm.Cond.soleField "Samovar" "boils") ∈ lw_all := lw_g (lw_at lw_m1 198 rfl) rfl
theorem q292 : (Jvm.Cond.lays "Samovar" "Samovar" "drawn" "I") ∈ lw_all := lw_g (lw_at lw_m1 199 rfl) rfl
theorem q293 : (Jvm.Cond.soleField "Samovar" "drawn") ∈ lw_all := lw_g (lw_at lw_m1 200 rfl) rfl
theorem q294 : (Jvm.Cond.laysFinal "Samovar" "Samovar" "others" "Ljava/util/ArrayList;") ∈ lw_all := lw_g (lw_at lw_m1 201 rfl) rfl
theorem q295 : (Jvm.Cond.soleField "Samovar" "others") ∈ lw_all := lw_g (lw_at lw_m1 202 rfl) rfl
theorem q296 : (Jvm.Cond.laysFinal "Samovar" "Samovar" "strangers" "[LSamovar$Guest;") ∈ lw_all := lw_g (lw_at lw_m1 203 rfl) rfl
theorem q297 : (Jvm.Cond.soleField "Samovar" "strangers") ∈ lw_all := lw_g (lw_at lw_m1 204 rfl) rfl
theorem q298 : (Jvm.Cond.laysFinal "Samovar" "Samovar" "sheets" "[LSamovar$Sheet;") ∈ lw_all := lw_g (lw_at lw_m1 205 rfl) rfl
theorem q299 : (Jvm.Cond.soleField "Samovar" "sheets") ∈ lw_all := lw_g (lw_at lw_m1 206 rfl) rfl
theorem q300 : (Jvm.Cond.superclass "Samovar" "java/lang/Object") ∈ lw_all := lw_g (lw_at lw_m1 207 rfl) rfl
theorem q301 : (Jvm.Cond.methodLink "SamovarLaw" (13 : Nat) ({ cls := "Samovar", name := "type", desc := "(II)I" } : Jvm.MethodName)) ∈ lw_all := lw_g (lw_at lw_m1 208 rfl) rfl
theorem q302 : (Jvm.Cond.instanceMethod ({ cls := "Samovar", name := "type", desc := "(II)I" } : Jvm.MethodName)) ∈ lw_all := lw_g (lw_at lw_m1 209 rfl) rfl
theorem q303 : (Jvm.Cond.selects "Samovar" ({ cls := "Samovar", name := "type", desc := "(II)I" } : Jvm.MethodName) ({ cls := "Samovar", name := "type", desc := "(II)I" } : Jvm.MethodName)) ∈ lw_all := lw_g (lw_at lw_m1 210 rfl) rfl
theorem q304 : (Jvm.Cond.code ({ cls := "Samovar", name := "type", desc := "(II)I" } : Jvm.MethodName) prog_1_method_9_code (3 : Nat) (Option.some Jvm.ClassFile.FieldType.int)) ∈ lw_all := lw_g (lw_at lw_m1 211 rfl) rfl
theorem q305 : (Jvm.Cond.methodLink "Samovar" (101 : Nat) ({ cls := "Samovar", name := "isTwo", desc := "(I)Z" } : Jvm.MethodName)) ∈ lw_all := lw_g (lw_at lw_m1 212 rfl) rfl
theorem q306 : (Jvm.Cond.static ({ cls := "Samovar", name := "isTwo", desc := "(I)Z" } : Jvm.MethodName)) ∈ lw_all := lw_g (lw_at lw_m1 213 rfl) rfl
theorem q307 : (Jvm.Cond.code ({ cls := "Samovar", name := "isTwo", desc := "(I)Z" } : Jvm.MethodName) prog_1_method_6_code (1 : Nat) (Option.some Jvm.ClassFile.FieldType.boolean)) ∈ lw_all := lw_g (lw_at lw_m1 214 rfl) rfl
theorem q308 : (Jvm.Cond.methodLink "Samovar" (95 : Nat) ({ cls := "Samovar", name := "in", desc := "(JJJ)Z" } : Jvm.MethodName)) ∈ lw_all := lw_g (lw_at lw_m1 215 rfl) rfl
theorem q309 : (Jvm.Cond.static ({ cls := "Samovar", name := "in", desc := "(JJJ)Z" } : Jvm.MethodName)) ∈ lw_all := lw_g (lw_at lw_m1 216 rfl) rfl
theorem q310 : (Jvm.Cond.code ({ cls := "Samovar", name := "in", desc := "(JJJ)Z" } : Jvm.MethodName) prog_1_method_2_code (6 : Nat) (Option.some Jvm.ClassFile.FieldType.boolean)) ∈ lw_all := lw_g (lw_at lw_m1 217 rfl) rfl
theorem q311 : (Jvm.Cond.constantLong "Samovar" (105 : Nat) (255 : Int64)) ∈ lw_all := lw_g (lw_at lw_m1 218 rfl) rfl
theorem q312 : (Jvm.Cond.methodLink "Samovar" (107 : Nat) ({ cls := "Samovar$Text", name := "type", desc := "(I)I" } : Jvm.MethodName)) ∈ lw_all := lw_g (lw_at lw_m1 219 rfl) rfl
theorem q313 : (Jvm.Cond.instanceMethod ({ cls := "Samovar$Text", name := "type", desc := "(I)I" } : Jvm.MethodName)) ∈ lw_all := lw_g (lw_at lw_m1 220 rfl) rfl
theorem q314 : (Jvm.Cond.sameMethod "Samovar$Text" "Samovar$Text" "type" "(I)I") ∈ lw_all := lw_g (lw_at lw_m1 221 rfl) rfl
theorem q315 : (Jvm.Cond.selects "Samovar$Company" ({ cls := "Samovar$Text", name := "type", desc := "(I)I" } : Jvm.MethodName) ({ cls := "Samovar$Text", name := "type", desc := "(I)I" } : Jvm.MethodName)) ∈ lw_all := lw_g (lw_at lw_m1 222 rfl) rfl
theorem q316 : (Jvm.Cond.selects "Samovar$Woodpile" ({ cls := "Samovar$Text", name := "type", desc := "(I)I" } : Jvm.MethodName) ({ cls := "Samovar$Text", name := "type", desc := "(I)I" } : Jvm.MethodName)) ∈ lw_all := lw_g (lw_at lw_m1 223 rfl) rfl
theorem q317 : (Jvm.Cond.code ({ cls := "Samovar$Text", name := "type", desc := "(I)I" } : Jvm.MethodName) prog_11_method_5_code (2 : Nat) (Option.some Jvm.ClassFile.FieldType.int)) ∈ lw_all := lw_g (lw_at lw_m1 224 rfl) rfl
theorem q318 : (Jvm.Cond.methodLink "SamovarLaw" (18 : Nat) ({ cls := "Samovar", name := "wipe", desc := "(I)I" } : Jvm.MethodName)) ∈ lw_all := lw_g (lw_at lw_m1 225 rfl) rfl
theorem q319 : (Jvm.Cond.instanceMethod ({ cls := "Samovar", name := "wipe", desc := "(I)I" } : Jvm.MethodName)) ∈ lw_all := lw_g (lw_at lw_m1 226 rfl) rfl
theorem q320 : (Jvm.Cond.selects "Samovar" ({ cls := "Samovar", name := "wipe", desc := "(I)I" } : Jvm.MethodName) ({ cls := "Samovar", name := "wipe", desc := "(I)I" } : Jvm.MethodName)) ∈ lw_all := lw_g (lw_at lw_m1 227 rfl) rfl
theorem q321 : (Jvm.Cond.code ({ cls := "Samovar", name := "wipe", desc := "(I)I" } : Jvm.MethodName) prog_1_method_10_code (2 : Nat) (Option.some Jvm.ClassFile.FieldType.int)) ∈ lw_all := lw_g (lw_at lw_m1 228 rfl) rfl
theorem q322 : (Jvm.Cond.methodLink "Samovar" (111 : Nat) ({ cls := "Samovar$Text", name := "wipe", desc := "()I" } : Jvm.MethodName)) ∈ lw_all := lw_g (lw_at lw_m1 229 rfl) rfl
theorem q323 : (Jvm.Cond.instanceMethod ({ cls := "Samovar$Text", name := "wipe", desc := "()I" } : Jvm.MethodName)) ∈ lw_all := lw_g (lw_at lw_m1 230 rfl) rfl
theorem q324 : (Jvm.Cond.sameMethod "Samovar$Text" "Samovar$Text" "wipe" "()I") ∈ lw_all := lw_g (lw_at lw_m1 231 rfl) rfl
theorem q325 : (Jvm.Cond.selects "Samovar$Company" ({ cls := "Samovar$Text", name := "wipe", desc := "()I" } : Jvm.MethodName) ({ cls := "Samovar$Text", name := "wipe", desc := "()I" } : Jvm.MethodName)) ∈ lw_all := lw_g (lw_at lw_m1 232 rfl) rfl
theorem q326 : (Jvm.Cond.selects "Samovar$Woodpile" ({ cls := "Samovar$Text", name := "wipe", desc := "()I" } : Jvm.MethodName) ({ cls := "Samovar$Text", name := "wipe", desc := "()I" } : Jvm.MethodName)) ∈ lw_all := lw_g (lw_at lw_m1 233 rfl) rfl
theorem q327 : (Jvm.Cond.code ({ cls := "Samovar$Text", name := "wipe", desc := "()I" } : Jvm.MethodName) prog_11_method_6_code (2 : Nat) (Option.some Jvm.ClassFile.FieldType.int)) ∈ lw_all := lw_g (lw_at lw_m1 234 rfl) rfl
theorem q328 : (Jvm.Cond.methodLink "SamovarLaw" (23 : Nat) ({ cls := "Samovar", name := "undo", desc := "(I)I" } : Jvm.MethodName)) ∈ lw_all := lw_g (lw_at lw_m1 235 rfl) rfl
theorem q329 : (Jvm.Cond.instanceMethod ({ cls := "Samovar", name := "undo", desc := "(I)I" } : Jvm.MethodName)) ∈ lw_all := lw_g (lw_at lw_m1 236 rfl) rfl
theorem q330 : (Jvm.Cond.selects "Samovar" ({ cls := "Samovar", name := "undo", desc := "(I)I" } : Jvm.MethodName) ({ cls := "Samovar", name := "undo", desc := "(I)I" } : Jvm.MethodName)) ∈ lw_all := lw_g (lw_at lw_m1 237 rfl) rfl
theorem q331 : (Jvm.Cond.code ({ cls := "Samovar", name := "undo", desc := "(I)I" } : Jvm.MethodName) prog_1_method_11_code (2 : Nat) (Option.some Jvm.ClassFile.FieldType.int)) ∈ lw_all := lw_g (lw_at lw_m1 238 rfl) rfl
theorem q332 : (Jvm.Cond.methodLink "Samovar" (115 : Nat) ({ cls := "Samovar$Text", name := "undo", desc := "()I" } : Jvm.MethodName)) ∈ lw_all := lw_g (lw_at lw_m1 239 rfl) rfl
theorem q333 : (Jvm.Cond.instanceMethod ({ cls := "Samovar$Text", name := "undo", desc := "()I" } : Jvm.MethodName)) ∈ lw_all := lw_g (lw_at lw_m2 0 rfl) rfl
theorem q334 : (Jvm.Cond.sameMethod "Samovar$Text" "Samovar$Text" "undo" "()I") ∈ lw_all := lw_g (lw_at lw_m2 1 rfl) rfl
theorem q335 : (Jvm.Cond.selects "Samovar$Company" ({ cls := "Samovar$Text", name := "undo", desc := "()I" } : Jvm.MethodName) ({ cls := "Samovar$Text", name := "undo", desc := "()I" } : Jvm.MethodName)) ∈ lw_all := lw_g (lw_at lw_m2 2 rfl) rfl
theorem q336 : (Jvm.Cond.selects "Samovar$Woodpile" ({ cls := "Samovar$Text", name := "undo", desc := "()I" } : Jvm.MethodName) ({ cls := "Samovar$Text", name := "undo", desc := "()I" } : Jvm.MethodName)) ∈ lw_all := lw_g (lw_at lw_m2 3 rfl) rfl
theorem q337 : (Jvm.Cond.code ({ cls := "Samovar$Text", name := "undo", desc := "()I" } : Jvm.MethodName) prog_11_method_7_code (1 : Nat) (Option.some Jvm.ClassFile.FieldType.int)) ∈ lw_all := lw_g (lw_at lw_m2 4 rfl) rfl
theorem q338 : (Jvm.Cond.methodLink "SamovarLaw" (27 : Nat) ({ cls := "Samovar", name := "fault", desc := "(I)I" } : Jvm.MethodName)) ∈ lw_all := lw_g (lw_at lw_m2 5 rfl) rfl
theorem q339 : (Jvm.Cond.instanceMethod ({ cls := "Samovar", name := "fault", desc := "(I)I" } : Jvm.MethodName)) ∈ lw_all := lw_g (lw_at lw_m2 6 rfl) rfl
theorem q340 : (Jvm.Cond.selects "Samovar" ({ cls := "Samovar", name := "fault", desc := "(I)I" } : Jvm.MethodName) ({ cls := "Samovar", name := "fault", desc := "(I)I" } : Jvm.MethodName)) ∈ lw_all := lw_g (lw_at lw_m2 7 rfl) rfl
theorem q341 : (Jvm.Cond.code ({ cls := "Samovar", name := "fault", desc := "(I)I" } : Jvm.MethodName) prog_1_method_12_code (2 : Nat) (Option.some Jvm.ClassFile.FieldType.int)) ∈ lw_all := lw_g (lw_at lw_m2 8 rfl) rfl
theorem q342 : (Jvm.Cond.methodLink "Samovar" (118 : Nat) ({ cls := "Samovar$Text", name := "read", desc := "()I" } : Jvm.MethodName)) ∈ lw_all := lw_g (lw_at lw_m2 9 rfl) rfl
theorem q343 : (Jvm.Cond.instanceMethod ({ cls := "Samovar$Text", name := "read", desc := "()I" } : Jvm.MethodName)) ∈ lw_all := lw_g (lw_at lw_m2 10 rfl) rfl
theorem q344 : (Jvm.Cond.sameMethod "Samovar$Text" "Samovar$Text" "read" "()I") ∈ lw_all := lw_g (lw_at lw_m2 11 rfl) rfl
theorem q345 : (Jvm.Cond.selects "Samovar$Company" ({ cls := "Samovar$Text", name := "read", desc := "()I" } : Jvm.MethodName) ({ cls := "Samovar$Text", name := "read", desc := "()I" } : Jvm.MethodName)) ∈ lw_all := lw_g (lw_at lw_m2 12 rfl) rfl
theorem q346 : (Jvm.Cond.selects "Samovar$Woodpile" ({ cls := "Samovar$Text", name := "read", desc := "()I" } : Jvm.MethodName) ({ cls := "Samovar$Text", name := "read", desc := "()I" } : Jvm.MethodName)) ∈ lw_all := lw_g (lw_at lw_m2 13 rfl) rfl
theorem q347 : (Jvm.Cond.code ({ cls := "Samovar$Text", name := "read", desc := "()I" } : Jvm.MethodName) prog_11_method_12_code (1 : Nat) (Option.some Jvm.ClassFile.FieldType.int)) ∈ lw_all := lw_g (lw_at lw_m2 14 rfl) rfl
theorem q348 : (Jvm.Cond.methodLink "Samovar$Text" (61 : Nat) ({ cls := "Samovar$Text", name := "reads", desc := "()I" } : Jvm.MethodName)) ∈ lw_all := lw_g (lw_at lw_m2 15 rfl) rfl
theorem q349 : (Jvm.Cond.privateMethod ({ cls := "Samovar$Text", name := "reads", desc := "()I" } : Jvm.MethodName)) ∈ lw_tbl := lw_at lw_m2 16 rfl
theorem q350 : (Jvm.Cond.instanceMethod ({ cls := "Samovar$Text", name := "reads", desc := "()I" } : Jvm.MethodName)) ∈ lw_all := lw_g (lw_at lw_m2 17 rfl) rfl
theorem q351 : (Jvm.Cond.codeWith ({ cls := "Samovar$Text", name := "reads", desc := "()I" } : Jvm.MethodName) prog_11_method_11_code (2 : Nat) (Option.some Jvm.ClassFile.FieldType.int) [((9 : Nat), (46 : Nat), (47 : Nat), (32 : Nat))]) ∈ lw_all := lw_g (lw_at lw_m2 18 rfl) rfl
theorem q352 : (Jvm.Cond.classLink "Samovar$Text" (32 : Nat) "Samovar$Torn") ∈ lw_all := lw_g (lw_at lw_m2 19 rfl) rfl
theorem q353 : (Jvm.Cond.methodLink "Samovar$Text" (50 : Nat) ({ cls := "Samovar$Text", name := "clear", desc := "()V" } : Jvm.MethodName)) ∈ lw_all := lw_g (lw_at lw_m2 20 rfl) rfl
theorem q354 : (Jvm.Cond.declares ({ cls := "Samovar$Text", name := "clear", desc := "()V" } : Jvm.MethodName)) ∈ lw_tbl := lw_at lw_m2 21 rfl
theorem q355 : (Jvm.Cond.sameMethod "Samovar$Text" "Samovar$Text" "clear" "()V") ∈ lw_all := lw_g (lw_at lw_m2 22 rfl) rfl
theorem q356 : (Jvm.Cond.selects "Samovar$Company" ({ cls := "Samovar$Text", name := "clear", desc := "()V" } : Jvm.MethodName) ({ cls := "Samovar$Company", name := "clear", desc := "()V" } : Jvm.MethodName)) ∈ lw_all := lw_g (lw_at lw_m2 23 rfl) rfl
theorem q357 : (Jvm.Cond.instanceMethod ({ cls := "Samovar$Company", name := "clear", desc := "()V" } : Jvm.MethodName)) ∈ lw_all := lw_g (lw_at lw_m2 24 rfl) rfl
theorem q358 : (Jvm.Cond.code ({ cls := "Samovar$Company", name := "clear", desc := "()V" } : Jvm.MethodName) prog_4_method_2_code (1 : Nat) (Option.none : Option Jvm.ClassFile.FieldType)) ∈ lw_all := lw_g (lw_at lw_m2 25 rfl) rfl
theorem q359 : (Jvm.Cond.methodLink "Samovar$Company" (16 : Nat) ({ cls := "java/util/ArrayList", name := "clear", desc := "()V" } : Jvm.MethodName)) ∈ lw_all := lw_g (lw_at lw_m2 26 rfl) rfl
theorem q360 : (Jvm.Cond.instanceMethod ({ cls := "java/util/ArrayList", name := "clear", desc := "()V" } : Jvm.MethodName)) ∈ lw_all := lw_g (lw_at lw_m2 27 rfl) rfl
theorem q361 : (Jvm.Cond.selects "java/util/ArrayList" ({ cls := "java/util/ArrayList", name := "clear", desc := "()V" } : Jvm.MethodName) ({ cls := "java/util/ArrayList", name := "clear", desc := "()V" } : Jvm.MethodName)) ∈ lw_all := lw_g (lw_at lw_m2 28 rfl) rfl
theorem q362 : (Jvm.Cond.code ({ cls := "java/util/ArrayList", name := "clear", desc := "()V" } : Jvm.MethodName) prog_38_method_40_code (4 : Nat) (Option.none : Option Jvm.ClassFile.FieldType)) ∈ lw_all := lw_g (lw_at lw_m2 29 rfl) rfl
theorem q363 : (Jvm.Cond.selects "Samovar$Woodpile" ({ cls := "Samovar$Text", name := "clear", desc := "()V" } : Jvm.MethodName) ({ cls := "Samovar$Woodpile", name := "clear", desc := "()V" } : Jvm.MethodName)) ∈ lw_all := lw_g (lw_at lw_m2 30 rfl) rfl
theorem q364 : (Jvm.Cond.instanceMethod ({ cls := "Samovar$Woodpile", name := "clear", desc := "()V" } : Jvm.MethodName)) ∈ lw_all := lw_g (lw_at lw_m2 31 rfl) rfl
theorem q365 : (Jvm.Cond.code ({ cls := "Samovar$Woodpile", name := "clear", desc := "()V" } : Jvm.MethodName) prog_13_method_2_code (1 : Nat) (Option.none : Option Jvm.ClassFile.FieldType)) ∈ lw_all := lw_g (lw_at lw_m2 32 rfl) rfl
theorem q366 : (Jvm.Cond.methodLink "Samovar$Woodpile" (16 : Nat) ({ cls := "java/util/ArrayList", name := "clear", desc := "()V" } : Jvm.MethodName)) ∈ lw_all := lw_g (lw_at lw_m2 33 rfl) rfl
theorem q367 : (Jvm.Cond.methodLink "Samovar$Text" (53 : Nat) ({ cls := "Samovar$Text", name := "next", desc := "()V" } : Jvm.MethodName)) ∈ lw_all := lw_g (lw_at lw_m2 34 rfl) rfl
theorem q368 : (Jvm.Cond.privateMethod ({ cls := "Samovar$Text", name := "next", desc := "()V" } : Jvm.MethodName)) ∈ lw_tbl := lw_at lw_m2 35 rfl
theorem q369 : (Jvm.Cond.instanceMethod ({ cls := "Samovar$Text", name := "next", desc := "()V" } : Jvm.MethodName)) ∈ lw_all := lw_g (lw_at lw_m2 36 rfl) rfl
theorem q370 : (Jvm.Cond.code ({ cls := "Samovar$Text", name := "next", desc := "()V" } : Jvm.MethodName) prog_11_method_10_code (1 : Nat) (Option.none : Option Jvm.ClassFile.FieldType)) ∈ lw_all := lw_g (lw_at lw_m2 37 rfl) rfl
theorem q371 : (Jvm.Cond.methodLink "Samovar$Text" (37 : Nat) ({ cls := "Samovar$Text", name := "many", desc := "()I" } : Jvm.MethodName)) ∈ lw_all := lw_g (lw_at lw_m2 38 rfl) rfl
theorem q372 : (Jvm.Cond.declares ({ cls := "Samovar$Text", name := "many", desc := "()I" } : Jvm.MethodName)) ∈ lw_tbl := lw_at lw_m2 39 rfl
theorem q373 : (Jvm.Cond.sameMethod "Samovar$Text" "Samovar$Text" "many" "()I") ∈ lw_all := lw_g (lw_at lw_m2 40 rfl) rfl
theorem q374 : (Jvm.Cond.selects "Samovar$Company" ({ cls := "Samovar$Text", name := "many", desc := "()I" } : Jvm.MethodName) ({ cls := "Samovar$Company", name := "many", desc := "()I" } : Jvm.MethodName)) ∈ lw_all := lw_g (lw_at lw_m2 41 rfl) rfl
theorem q375 : (Jvm.Cond.instanceMethod ({ cls := "Samovar$Company", name := "many", desc := "()I" } : Jvm.MethodName)) ∈ lw_all := lw_g (lw_at lw_m2 42 rfl) rfl
theorem q376 : (Jvm.Cond.code ({ cls := "Samovar$Company", name := "many", desc := "()I" } : Jvm.MethodName) prog_4_method_3_code (1 : Nat) (Option.some Jvm.ClassFile.FieldType.int)) ∈ lw_all := lw_g (lw_at lw_m2 43 rfl) rfl
theorem q377 : (Jvm.Cond.methodLink "Samovar$Company" (19 : Nat) ({ cls := "java/util/ArrayList", name := "size", desc := "()I" } : Jvm.MethodName)) ∈ lw_all := lw_g (lw_at lw_m2 44 rfl) rfl
theorem q378 : (Jvm.Cond.instanceMethod ({ cls := "java/util/ArrayList", name := "size", desc := "()I" } : Jvm.MethodName)) ∈ lw_all := lw_g (lw_at lw_m2 45 rfl) rfl
theorem q379 : (Jvm.Cond.selects "java/util/ArrayList" ({ cls := "java/util/ArrayList", name := "size", desc := "()I" } : Jvm.MethodName) ({ cls := "java/util/ArrayList", name := "size", desc := "()I" } : Jvm.MethodName)) ∈ lw_all := lw_g (lw_at lw_m2 46 rfl) rfl
theorem q380 : (Jvm.Cond.code ({ cls := "java/util/ArrayList", name := "size", desc := "()I" } : Jvm.MethodName) prog_38_method_8_code (1 : Nat) (Option.some Jvm.ClassFile.FieldType.int)) ∈ lw_all := lw_g (lw_at lw_m2 47 rfl) rfl
theorem q381 : (Jvm.Cond.selects "Samovar$Woodpile" ({ cls := "Samovar$Text", name := "many", desc := "()I" } : Jvm.MethodName) ({ cls := "Samovar$Woodpile", name := "many", desc := "()I" } : Jvm.MethodName)) ∈ lw_all := lw_g (lw_at lw_m2 48 rfl) rfl
theorem q382 : (Jvm.Cond.instanceMethod ({ cls := "Samovar$Woodpile", name := "many", desc := "()I" } : Jvm.MethodName)) ∈ lw_all := lw_g (lw_at lw_m2 49 rfl) rfl
theorem q383 : (Jvm.Cond.code ({ cls := "Samovar$Woodpile", name := "many", desc := "()I" } : Jvm.MethodName) prog_13_method_3_code (1 : Nat) (Option.some Jvm.ClassFile.FieldType.int)) ∈ lw_all := lw_g (lw_at lw_m2 50 rfl) rfl
theorem q384 : (Jvm.Cond.methodLink "Samovar$Woodpile" (19 : Nat) ({ cls := "java/util/ArrayList", name := "size", desc := "()I" } : Jvm.MethodName)) ∈ lw_all := lw_g (lw_at lw_m2 51 rfl) rfl
theorem q385 : (Jvm.Cond.instantiable "Samovar$Torn" (7 : Nat)) ∈ lw_all := lw_g (lw_at lw_m2 52 rfl) rfl
theorem q386 : (Jvm.Cond.castable "Samovar$Torn" "Samovar$Torn") ∈ lw_tbl := lw_at lw_m2 53 rfl
theorem q387 : (Jvm.Cond.declares ({ cls := "java/lang/Exception", name := "<init>", desc := "()V" } : Jvm.MethodName)) ∈ lw_tbl := lw_at lw_m2 54 rfl
theorem q388 : (Jvm.Cond.declares ({ cls := "java/lang/Exception", name := "<init>", desc := "(Ljava/lang/String;)V" } : Jvm.MethodName)) ∈ lw_tbl := lw_at lw_m2 55 rfl
theorem q389 : (Jvm.Cond.declares ({ cls := "java/lang/Throwable", name := "<init>", desc := "()V" } : Jvm.MethodName)) ∈ lw_tbl := lw_at lw_m2 56 rfl
theorem q390 : (Jvm.Cond.declares ({ cls := "java/lang/Throwable", name := "<init>", desc := "(Ljava/lang/String;)V" } : Jvm.MethodName)) ∈ lw_tbl := lw_at lw_m2 57 rfl
theorem q391 : (Jvm.Cond.selects "Samovar$Torn" ({ cls := "java/lang/Throwable", name := "fillInStackTrace", desc := "(I)Ljava/lang/Throwable;" } : Jvm.MethodName) ({ cls := "java/lang/Throwable", name := "fillInStackTrace", desc := "(I)Ljava/lang/Throwable;" } : Jvm.MethodName)) ∈ lw_all := lw_g (lw_at lw_m2 58 rfl) rfl
theorem q392 : (Jvm.Cond.selects "Samovar$Torn" ({ cls := "java/lang/Throwable", name := "fillInStackTrace", desc := "()Ljava/lang/Throwable;" } : Jvm.MethodName) ({ cls := "java/lang/Throwable", name := "fillInStackTrace", desc := "()Ljava/lang/Throwable;" } : Jvm.MethodName)) ∈ lw_all := lw_g (lw_at lw_m2 59 rfl) rfl
theorem q393 : (Jvm.Cond.lays "Samovar$Torn" "java/lang/Throwable" "cause" "Ljava/lang/Throwable;") ∈ lw_all := lw_g (lw_at lw_m2 60 rfl) rfl
theorem q394 : (Jvm.Cond.lays "java/lang/Throwable" "java/lang/Throwable" "cause" "Ljava/lang/Throwable;") ∈ lw_all := lw_g (lw_at lw_m2 61 rfl) rfl
theorem q395 : (Jvm.Cond.lays "Samovar$Torn" "java/lang/Throwable" "stackTrace" "[Ljava/lang/StackTraceElement;") ∈ lw_all := lw_g (lw_at lw_m2 62 rfl) rfl
theorem q396 : (Jvm.Cond.lays "java/lang/Throwable" "java/lang/Throwable" "stackTrace" "[Ljava/lang/StackTraceElement;") ∈ lw_all := lw_g (lw_at lw_m2 63 rfl) rfl
theorem q397 : (Jvm.Cond.lays "Samovar$Torn" "java/lang/Throwable" "suppressedExceptions" "Ljava/util/List;") ∈ lw_all := lw_g (lw_at lw_m2 64 rfl) rfl
theorem q398 : (Jvm.Cond.lays "java/lang/Throwable" "java/lang/Throwable" "suppressedExceptions" "Ljava/util/List;") ∈ lw_all := lw_g (lw_at lw_m2 65 rfl) rfl
theorem q399 : (Jvm.Cond.lays "Samovar$Torn" "java/lang/Throwable" "detailMessage" "Ljava/lang/String;") ∈ lw_all := lw_g (lw_at lw_m2 66 rfl) rfl
theorem q400 : (Jvm.Cond.lays "java/lang/Throwable" "java/lang/Throwable" "detailMessage" "Ljava/lang/String;") ∈ lw_all := lw_g (lw_at lw_m2 67 rfl) rfl
theorem q401 : (Jvm.Cond.lays "Samovar$Torn" "java/lang/Throwable" "backtrace" "Ljava/lang/Object;") ∈ lw_all := lw_g (lw_at lw_m2 68 rfl) rfl
theorem q402 : (Jvm.Cond.lays "java/lang/Throwable" "java/lang/Throwable" "backtrace" "Ljava/lang/Object;") ∈ lw_all := lw_g (lw_at lw_m2 69 rfl) rfl
theorem q403 : (Jvm.Cond.fieldLink "java/lang/Throwable" (198 : Nat) "java/lang/Throwable" "backtrace" "Ljava/lang/Object;") ∈ lw_all := lw_g (lw_at lw_m2 70 rfl) rfl
theorem q404 : (Jvm.Cond.superclass "java/lang/Throwable" "java/lang/Object") ∈ lw_all := lw_g (lw_at lw_m2 71 rfl) rfl
theorem q405 : (Jvm.Cond.instanceMethod ({ cls := "java/lang/Throwable", name := "<init>", desc := "()V" } : Jvm.MethodName)) ∈ lw_all := lw_g (lw_at lw_m2 72 rfl) rfl
theorem q406 : (Jvm.Cond.code ({ cls := "java/lang/Throwable", name := "<init>", desc := "()V" } : Jvm.MethodName) prog_33_method_1_code (1 : Nat) (Option.none : Option Jvm.ClassFile.FieldType)) ∈ lw_all := lw_g (lw_at lw_m2 73 rfl) rfl
theorem q407 : (Jvm.Cond.methodLink "java/lang/Throwable" (1 : Nat) ({ cls := "java/lang/Object", name := "<init>", desc := "()V" } : Jvm.MethodName)) ∈ lw_all := lw_g (lw_at lw_m2 74 rfl) rfl
theorem q408 : (Jvm.Cond.fieldLink "java/lang/Throwable" (13 : Nat) "java/lang/Throwable" "UNASSIGNED_STACK" "[Ljava/lang/StackTraceElement;") ∈ lw_all := lw_g (lw_at lw_m2 75 rfl) rfl
theorem q409 : (Jvm.Cond.laysStatic "java/lang/Throwable" "UNASSIGNED_STACK" "[Ljava/lang/StackTraceElement;") ∈ lw_tbl := lw_at lw_m2 76 rfl
theorem q410 : (Jvm.Cond.fieldLink "java/lang/Throwable" (20 : Nat) "java/lang/Throwable" "SUPPRESSED_SENTINEL" "Ljava/util/List;") ∈ lw_all := lw_g (lw_at lw_m2 77 rfl) rfl
theorem q411 : (Jvm.Cond.laysStatic "java/lang/Throwable" "SUPPRESSED_SENTINEL" "Ljava/util/List;") ∈ lw_tbl := lw_at lw_m2 78 rfl
theorem q412 : (Jvm.Cond.methodLink "java/lang/Throwable" (27 : Nat) ({ cls := "java/lang/Throwable", name := "fillInStackTrace", desc := "()Ljava/lang/Throwable;" } : Jvm.MethodName)) ∈ lw_all := lw_g (lw_at lw_m2 79 rfl) rfl
theorem q413 : (Jvm.Cond.instanceMethod ({ cls := "java/lang/Throwable", name := "fillInStackTrace", desc := "()Ljava/lang/Throwable;" } : Jvm.MethodName)) ∈ lw_all := lw_g (lw_at lw_m2 80 rfl) rfl
theorem q414 : (Jvm.Cond.sameMethod "java/lang/Throwable" "java/lang/Throwable" "fillInStackTrace" "()Ljava/lang/Throwable;") ∈ lw_all := lw_g (lw_at lw_m2 81 rfl) rfl
theorem q415 : (Jvm.Cond.selects "java/lang/ArrayIndexOutOfBoundsException" ({ cls := "java/lang/Throwable", name := "fillInStackTrace", desc := "()Ljava/lang/Throwable;" } : Jvm.MethodName) ({ cls := "java/lang/Throwable", name := "fillInStackTrace", desc := "()Ljava/lang/Throwable;" } : Jvm.MethodName)) ∈ lw_all := lw_g (lw_at lw_m2 82 rfl) rfl
theorem q416 : (Jvm.Cond.selects "java/lang/ClassCastException" ({ cls := "java/lang/Throwable", name := "fillInStackTrace", desc := "()Ljava/lang/Throwable;" } : Jvm.MethodName) ({ cls := "java/lang/Throwable", name := "fillInStackTrace", desc := "()Ljava/lang/Throwable;" } : Jvm.MethodName)) ∈ lw_all := lw_g (lw_at lw_m2 83 rfl) rfl
theorem q417 : (Jvm.Cond.selects "java/lang/NegativeArraySizeException" ({ cls := "java/lang/Throwable", name := "fillInStackTrace", desc := "()Ljava/lang/Throwable;" } : Jvm.MethodName) ({ cls := "java/lang/Throwable", name := "fillInStackTrace", desc := "()Ljava/lang/Throwable;" } : Jvm.MethodName)) ∈ lw_all := lw_g (lw_at lw_m2 84 rfl) rfl
theorem q418 : (Jvm.Cond.codeSync ({ cls := "java/lang/Throwable", name := "fillInStackTrace", desc := "()Ljava/lang/Throwable;" } : Jvm.MethodName) prog_33_method_18_code (1 : Nat) (Option.some (Jvm.ClassFile.FieldType.object "java/lang/Throwable"))) ∈ lw_all := lw_g (lw_at lw_m2 85 rfl) rfl
theorem q419 : (Jvm.Cond.methodLink "java/lang/Throwable" (202 : Nat) ({ cls := "java/lang/Throwable", name := "fillInStackTrace", desc := "(I)Ljava/lang/Throwable;" } : Jvm.MethodName)) ∈ lw_all := lw_g (lw_at lw_m2 86 rfl) rfl
theorem q420 : (Jvm.Cond.privateMethod ({ cls := "java/lang/Throwable", name := "fillInStackTrace", desc := "(I)Ljava/lang/Throwable;" } : Jvm.MethodName)) ∈ lw_tbl := lw_at lw_m2 87 rfl
theorem q421 : (Jvm.Cond.instanceMethod ({ cls := "java/lang/Throwable", name := "fillInStackTrace", desc := "(I)Ljava/lang/Throwable;" } : Jvm.MethodName)) ∈ lw_all := lw_g (lw_at lw_m2 88 rfl) rfl
theorem q422 : (Jvm.Cond.instantiable "java/lang/Throwable" (6 : Nat)) ∈ lw_all := lw_g (lw_at lw_m2 89 rfl) rfl
theorem q423 : (Jvm.Cond.native ({ cls := "java/lang/Throwable", name := "fillInStackTrace", desc := "(I)Ljava/lang/Throwable;" } : Jvm.MethodName)) ∈ lw_all := lw_g (lw_at lw_m2 90 rfl) rfl
theorem q424 : (Jvm.Cond.methodLink "Samovar$Text" (34 : Nat) ({ cls := "Samovar$Torn", name := "<init>", desc := "(I)V" } : Jvm.MethodName)) ∈ lw_all := lw_g (lw_at lw_m2 91 rfl) rfl
theorem q425 : (Jvm.Cond.instanceMethod ({ cls := "Samovar$Torn", name := "<init>", desc := "(I)V" } : Jvm.MethodName)) ∈ lw_all := lw_g (lw_at lw_m2 92 rfl) rfl
theorem q426 : (Jvm.Cond.code ({ cls := "Samovar$Torn", name := "<init>", desc := "(I)V" } : Jvm.MethodName) prog_12_method_1_code (2 : Nat) (Option.none : Option Jvm.ClassFile.FieldType)) ∈ lw_all := lw_g (lw_at lw_m2 93 rfl) rfl
theorem q427 : (Jvm.Cond.methodLink "Samovar$Torn" (1 : Nat) ({ cls := "java/lang/Exception", name := "<init>", desc := "(Ljava/lang/String;Ljava/lang/Throwable;ZZ)V" } : Jvm.MethodName)) ∈ lw_all := lw_g (lw_at lw_m2 94 rfl) rfl
theorem q428 : (Jvm.Cond.instanceMethod ({ cls := "java/lang/Exception", name := "<init>", desc := "(Ljava/lang/String;Ljava/lang/Throwable;ZZ)V" } : Jvm.MethodName)) ∈ lw_all := lw_g (lw_at lw_m2 95 rfl) rfl
theorem q429 : (Jvm.Cond.code ({ cls := "java/lang/Exception", name := "<init>", desc := "(Ljava/lang/String;Ljava/lang/Throwable;ZZ)V" } : Jvm.MethodName) prog_23_method_5_code (5 : Nat) (Option.none : Option Jvm.ClassFile.FieldType)) ∈ lw_all := lw_g (lw_at lw_m2 96 rfl) rfl
theorem q430 : (Jvm.Cond.methodLink "java/lang/Exception" (16 : Nat) ({ cls := "java/lang/Throwable", name := "<init>", desc := "(Ljava/lang/String;Ljava/lang/Throwable;ZZ)V" } : Jvm.MethodName)) ∈ lw_all := lw_g (lw_at lw_m2 97 rfl) rfl
theorem q431 : (Jvm.Cond.instanceMethod ({ cls := "java/lang/Throwable", name := "<init>", desc := "(Ljava/lang/String;Ljava/lang/Throwable;ZZ)V" } : Jvm.MethodName)) ∈ lw_all := lw_g (lw_at lw_m2 98 rfl) rfl
theorem q432 : (Jvm.Cond.code ({ cls := "java/lang/Throwable", name := "<init>", desc := "(Ljava/lang/String;Ljava/lang/Throwable;ZZ)V" } : Jvm.MethodName) prog_33_method_5_code (5 : Nat) (Option.none : Option Jvm.ClassFile.FieldType)) ∈ lw_all := lw_g (lw_at lw_m2 99 rfl) rfl
theorem q433 : (Jvm.Cond.fieldLink "Samovar$Torn" (7 : Nat) "Samovar$Torn" "place" "I") ∈ lw_all := lw_g (lw_at lw_m2 100 rfl) rfl
theorem q434 : (Jvm.Cond.fieldLinkNest "Samovar$Text" (58 : Nat) "Samovar$Torn" "place" "I" "Samovar") ∈ lw_tbl := lw_at lw_m2 101 rfl
theorem q435 : (Jvm.Cond.fieldLink "java/lang/Throwable" (198 : Nat) "java/lang/Throwable" "backtrace" "Ljava/lang/Object;") ∈ lw_all := lw_g (lw_at lw_m2 102 rfl) rfl
theorem q436 : (Jvm.Cond.fieldLink "java/lang/Throwable" (31 : Nat) "java/lang/Throwable" "detailMessage" "Ljava/lang/String;") ∈ lw_all := lw_g (lw_at lw_m2 103 rfl) rfl
theorem q437 : (Jvm.Cond.fieldLink "java/lang/Throwable" (7 : Nat) "java/lang/Throwable" "cause" "Ljava/lang/Throwable;") ∈ lw_all := lw_g (lw_at lw_m2 104 rfl) rfl
theorem q438 : (Jvm.Cond.fieldLink "java/lang/Throwable" (17 : Nat) "java/lang/Throwable" "stackTrace" "[Ljava/lang/StackTraceElement;") ∈ lw_all := lw_g (lw_at lw_m2 105 rfl) rfl
theorem q439 : (Jvm.Cond.fieldLink "java/lang/Throwable" (24 : Nat) "java/lang/Throwable" "suppressedExceptions" "Ljava/util/List;") ∈ lw_all := lw_g (lw_at lw_m2 106 rfl) rfl
theorem q440 : (Jvm.Cond.laysFinal "Samovar$Torn" "Samovar$Torn" "place" "I") ∈ lw_all := lw_g (lw_at lw_m2 107 rfl) rfl
theorem q441 : (Jvm.Cond.soleField "Samovar$Torn" "place") ∈ lw_all := lw_g (lw_at lw_m2 108 rfl) rfl
theorem q442 : (Jvm.Cond.soleField "java/lang/Throwable" "backtrace") ∈ lw_all := lw_g (lw_at lw_m2 109 rfl) rfl
theorem q443 : (Jvm.Cond.soleField "java/lang/Throwable" "detailMessage") ∈ lw_all := lw_g (lw_at lw_m2 110 rfl) rfl
theorem q444 : (Jvm.Cond.soleField "java/lang/Throwable" "cause") ∈ lw_all := lw_g (lw_at lw_m2 111 rfl) rfl
theorem q445 : (Jvm.Cond.soleField "java/lang/Throwable" "stackTrace") ∈ lw_all := lw_g (lw_at lw_m2 112 rfl) rfl
theorem q446 : (Jvm.Cond.lays "Samovar$Torn" "java/lang/Throwable" "depth" "I") ∈ lw_all := lw_g (lw_at lw_m2 113 rfl) rfl
theorem q447 : (Jvm.Cond.soleField "java/lang/Throwable" "depth") ∈ lw_all := lw_g (lw_at lw_m2 114 rfl) rfl
theorem q448 : (Jvm.Cond.soleField "java/lang/Throwable" "suppressedExceptions") ∈ lw_all := lw_g (lw_at lw_m2 115 rfl) rfl
theorem q449 : (Jvm.Cond.superclass "Samovar$Torn" "java/lang/Exception") ∈ lw_all := lw_g (lw_at lw_m2 116 rfl) rfl
theorem q450 : (Jvm.Cond.stringRef "Samovar$Text" (41 : Nat) "abcdefghijklmnopqrstuvwx") ∈ lw_tbl := lw_at lw_m2 117 rfl
theorem q451 : (Jvm.Cond.methodLink "Samovar$Text" (43 : Nat) ({ cls := "Samovar$Text", name := "passes", desc := "(Ljava/lang/String;)I" } : Jvm.MethodName)) ∈ lw_all := lw_g (lw_at lw_m2 118 rfl) rfl
theorem q452 : (Jvm.Cond.instanceMethod ({ cls := "Samovar$Text", name := "passes", desc := "(Ljava/lang/String;)I" } : Jvm.MethodName)) ∈ lw_all := lw_g (lw_at lw_m2 119 rfl) rfl
theorem q453 : (Jvm.Cond.sameMethod "Samovar$Text" "Samovar$Text" "passes" "(Ljava/lang/String;)I") ∈ lw_all := lw_g (lw_at lw_m2 120 rfl) rfl
theorem q454 : (Jvm.Cond.selects "Samovar$Company" ({ cls := "Samovar$Text", name := "passes", desc := "(Ljava/lang/String;)I" } : Jvm.MethodName) ({ cls := "Samovar$Text", name := "passes", desc := "(Ljava/lang/String;)I" } : Jvm.MethodName)) ∈ lw_all := lw_g (lw_at lw_m2 121 rfl) rfl
theorem q455 : (Jvm.Cond.selects "Samovar$Woodpile" ({ cls := "Samovar$Text", name := "passes", desc := "(Ljava/lang/String;)I" } : Jvm.MethodName) ({ cls := "Samovar$Text", name := "passes", desc := "(Ljava/lang/String;)I" } : Jvm.MethodName)) ∈ lw_all := lw_g (lw_at lw_m2 122 rfl) rfl
theorem q456 : (Jvm.Cond.code ({ cls := "Samovar$Text", name := "passes", desc := "(Ljava/lang/String;)I" } : Jvm.MethodName) prog_11_method_9_code (3 : Nat) (Option.some Jvm.ClassFile.FieldType.int)) ∈ lw_all := lw_g (lw_at lw_m2 123 rfl) rfl
theorem q457 : (Jvm.Cond.methodLink "Samovar$Text" (26 : Nat) ({ cls := "java/lang/String", name := "indexOf", desc := "(I)I" } : Jvm.MethodName)) ∈ lw_all := lw_g (lw_at lw_m2 124 rfl) rfl
theorem q458 : (Jvm.Cond.instanceMethod ({ cls := "java/lang/String", name := "indexOf", desc := "(I)I" } : Jvm.MethodName)) ∈ lw_all := lw_g (lw_at lw_m2 125 rfl) rfl
theorem q459 : (Jvm.Cond.selects "java/lang/String" ({ cls := "java/lang/String", name := "indexOf", desc := "(I)I" } : Jvm.MethodName) ({ cls := "java/lang/String", name := "indexOf", desc := "(I)I" } : Jvm.MethodName)) ∈ lw_all := lw_g (lw_at lw_m2 126 rfl) rfl
theorem q460 : (Jvm.Cond.code ({ cls := "java/lang/String", name := "indexOf", desc := "(I)I" } : Jvm.MethodName) prog_29_method_79_code (2 : Nat) (Option.some Jvm.ClassFile.FieldType.int)) ∈ lw_all := lw_g (lw_at lw_m2 127 rfl) rfl
theorem q461 : (Jvm.Cond.methodLink "java/lang/String" (633 : Nat) ({ cls := "java/lang/String", name := "indexOf", desc := "(II)I" } : Jvm.MethodName)) ∈ lw_all := lw_g (lw_at lw_m2 128 rfl) rfl
theorem q462 : (Jvm.Cond.instanceMethod ({ cls := "java/lang/String", name := "indexOf", desc := "(II)I" } : Jvm.MethodName)) ∈ lw_all := lw_g (lw_at lw_m2 129 rfl) rfl
theorem q463 : (Jvm.Cond.selects "java/lang/String" ({ cls := "java/lang/String", name := "indexOf", desc := "(II)I" } : Jvm.MethodName) ({ cls := "java/lang/String", name := "indexOf", desc := "(II)I" } : Jvm.MethodName)) ∈ lw_all := lw_g (lw_at lw_m2 130 rfl) rfl
theorem q464 : (Jvm.Cond.code ({ cls := "java/lang/String", name := "indexOf", desc := "(II)I" } : Jvm.MethodName) prog_29_method_80_code (3 : Nat) (Option.some Jvm.ClassFile.FieldType.int)) ∈ lw_all := lw_g (lw_at lw_m2 131 rfl) rfl
theorem q465 : (Jvm.Cond.methodLink "java/lang/String" (492 : Nat) ({ cls := "java/lang/String", name := "isLatin1", desc := "()Z" } : Jvm.MethodName)) ∈ lw_all := lw_g (lw_at lw_m2 132 rfl) rfl
theorem q466 : (Jvm.Cond.instanceMethod ({ cls := "java/lang/String", name := "isLatin1", desc := "()Z" } : Jvm.MethodName)) ∈ lw_all := lw_g (lw_at lw_m2 133 rfl) rfl
theorem q467 : (Jvm.Cond.selects "java/lang/String" ({ cls := "java/lang/String", name := "isLatin1", desc := "()Z" } : Jvm.MethodName) ({ cls := "java/lang/String", name := "isLatin1", desc := "()Z" } : Jvm.MethodName)) ∈ lw_all := lw_g (lw_at lw_m2 134 rfl) rfl
theorem q468 : (Jvm.Cond.code ({ cls := "java/lang/String", name := "isLatin1", desc := "()Z" } : Jvm.MethodName) prog_29_method_154_code (1 : Nat) (Option.some Jvm.ClassFile.FieldType.boolean)) ∈ lw_all := lw_g (lw_at lw_m2 135 rfl) rfl
theorem q469 : (Jvm.Cond.fieldLink "java/lang/String" (38 : Nat) "java/lang/String" "COMPACT_STRINGS" "Z") ∈ lw_all := lw_g (lw_at lw_m2 136 rfl) rfl
theorem q470 : (Jvm.Cond.laysStatic "java/lang/String" "COMPACT_STRINGS" "Z") ∈ lw_tbl := lw_at lw_m2 137 rfl
theorem q471 : (Jvm.Cond.methodLink "java/lang/String" (505 : Nat) ({ cls := "java/lang/String", name := "length", desc := "()I" } : Jvm.MethodName)) ∈ lw_all := lw_g (lw_at lw_m2 138 rfl) rfl
theorem q472 : (Jvm.Cond.instanceMethod ({ cls := "java/lang/String", name := "length", desc := "()I" } : Jvm.MethodName)) ∈ lw_all := lw_g (lw_at lw_m2 139 rfl) rfl
theorem q473 : (Jvm.Cond.selects "java/lang/String" ({ cls := "java/lang/String", name := "length", desc := "()I" } : Jvm.MethodName) ({ cls := "java/lang/String", name := "length", desc := "()I" } : Jvm.MethodName)) ∈ lw_all := lw_g (lw_at lw_m2 140 rfl) rfl
theorem q474 : (Jvm.Cond.code ({ cls := "java/lang/String", name := "length", desc := "()I" } : Jvm.MethodName) prog_29_method_54_code (1 : Nat) (Option.some Jvm.ClassFile.FieldType.int)) ∈ lw_all := lw_g (lw_at lw_m2 141 rfl) rfl
theorem q475 : (Jvm.Cond.methodLink "java/lang/String" (335 : Nat) ({ cls := "java/lang/String", name := "coder", desc := "()B" } : Jvm.MethodName)) ∈ lw_all := lw_g (lw_at lw_m2 142 rfl) rfl
theorem q476 : (Jvm.Cond.instanceMethod ({ cls := "java/lang/String", name := "coder", desc := "()B" } : Jvm.MethodName)) ∈ lw_all := lw_g (lw_at lw_m2 143 rfl) rfl
theorem q477 : (Jvm.Cond.selects "java/lang/String" ({ cls := "java/lang/String", name := "coder", desc := "()B" } : Jvm.MethodName) ({ cls := "java/lang/String", name := "coder", desc := "()B" } : Jvm.MethodName)) ∈ lw_all := lw_g (lw_at lw_m2 144 rfl) rfl
theorem q478 : (Jvm.Cond.code ({ cls := "java/lang/String", name := "coder", desc := "()B" } : Jvm.MethodName) prog_29_method_152_code (1 : Nat) (Option.some Jvm.ClassFile.FieldType.byte)) ∈ lw_all := lw_g (lw_at lw_m2 145 rfl) rfl
theorem q479 : (Jvm.Cond.methodLink "java/lang/String" (637 : Nat) ({ cls := "java/lang/StringLatin1", name := "indexOf", desc := "([BIII)I" } : Jvm.MethodName)) ∈ lw_all := lw_g (lw_at lw_m2 146 rfl) rfl
theorem q480 : (Jvm.Cond.static ({ cls := "java/lang/StringLatin1", name := "indexOf", desc := "([BIII)I" } : Jvm.MethodName)) ∈ lw_all := lw_g (lw_at lw_m2 147 rfl) rfl
theorem q481 : (Jvm.Cond.code ({ cls := "java/lang/StringLatin1", name := "indexOf", desc := "([BIII)I" } : Jvm.MethodName) prog_30_method_22_code (4 : Nat) (Option.some Jvm.ClassFile.FieldType.int)) ∈ lw_all := lw_g (lw_at lw_m2 148 rfl) rfl
theorem q482 : (Jvm.Cond.methodLink "java/lang/StringLatin1" (88 : Nat) ({ cls := "java/lang/StringLatin1", name := "canEncode", desc := "(I)Z" } : Jvm.MethodName)) ∈ lw_all := lw_g (lw_at lw_m2 149 rfl) rfl
theorem q483 : (Jvm.Cond.static ({ cls := "java/lang/StringLatin1", name := "canEncode", desc := "(I)Z" } : Jvm.MethodName)) ∈ lw_all := lw_g (lw_at lw_m2 150 rfl) rfl
theorem q484 : (Jvm.Cond.code ({ cls := "java/lang/StringLatin1", name := "canEncode", desc := "(I)Z" } : Jvm.MethodName) prog_30_method_4_code (1 : Nat) (Option.some Jvm.ClassFile.FieldType.boolean)) ∈ lw_all := lw_g (lw_at lw_m2 151 rfl) rfl
theorem q485 : (Jvm.Cond.methodLink "java/lang/StringLatin1" (92 : Nat) ({ cls := "java/lang/Math", name := "max", desc := "(II)I" } : Jvm.MethodName)) ∈ lw_all := lw_g (lw_at lw_m2 152 rfl) rfl
theorem q486 : (Jvm.Cond.static ({ cls := "java/lang/Math", name := "max", desc := "(II)I" } : Jvm.MethodName)) ∈ lw_all := lw_g (lw_at lw_m2 153 rfl) rfl
theorem q487 : (Jvm.Cond.code ({ cls := "java/lang/Math", name := "max", desc := "(II)I" } : Jvm.MethodName) prog_26_method_65_code (2 : Nat) (Option.some Jvm.ClassFile.FieldType.int)) ∈ lw_all := lw_g (lw_at lw_m2 154 rfl) rfl
theorem q488 : (Jvm.Cond.methodLink "java/lang/StringLatin1" (38 : Nat) ({ cls := "java/lang/Math", name := "min", desc := "(II)I" } : Jvm.MethodName)) ∈ lw_all := lw_g (lw_at lw_m2 155 rfl) rfl
theorem q489 : (Jvm.Cond.static ({ cls := "java/lang/Math", name := "min", desc := "(II)I" } : Jvm.MethodName)) ∈ lw_all := lw_g (lw_at lw_m2 156 rfl) rfl
theorem q490 : (Jvm.Cond.code ({ cls := "java/lang/Math", name := "min", desc := "(II)I" } : Jvm.MethodName) prog_26_method_69_code (2 : Nat) (Option.some Jvm.ClassFile.FieldType.int)) ∈ lw_all := lw_g (lw_at lw_m2 157 rfl) rfl
theorem q491 : (Jvm.Cond.methodLink "java/lang/StringLatin1" (95 : Nat) ({ cls := "java/lang/StringLatin1", name := "indexOfChar", desc := "([BIII)I" } : Jvm.MethodName)) ∈ lw_all := lw_g (lw_at lw_m2 158 rfl) rfl
theorem q492 : (Jvm.Cond.static ({ cls := "java/lang/StringLatin1", name := "indexOfChar", desc := "([BIII)I" } : Jvm.MethodName)) ∈ lw_all := lw_g (lw_at lw_m2 159 rfl) rfl
theorem q493 : (Jvm.Cond.code ({ cls := "java/lang/StringLatin1", name := "indexOfChar", desc := "([BIII)I" } : Jvm.MethodName) prog_30_method_23_code (6 : Nat) (Option.some Jvm.ClassFile.FieldType.int)) ∈ lw_all := lw_g (lw_at lw_m2 160 rfl) rfl
theorem q494 : (Jvm.Cond.methodLink "java/lang/String" (640 : Nat) ({ cls := "java/lang/StringUTF16", name := "indexOf", desc := "([BIII)I" } : Jvm.MethodName)) ∈ lw_all := lw_g (lw_at lw_m2 161 rfl) rfl
theorem q495 : (Jvm.Cond.static ({ cls := "java/lang/StringUTF16", name := "indexOf", desc := "([BIII)I" } : Jvm.MethodName)) ∈ lw_all := lw_g (lw_at lw_m2 162 rfl) rfl
theorem q496 : (Jvm.Cond.code ({ cls := "java/lang/StringUTF16", name := "indexOf", desc := "([BIII)I" } : Jvm.MethodName) prog_31_method_40_code (4 : Nat) (Option.some Jvm.ClassFile.FieldType.int)) ∈ lw_all := lw_g (lw_at lw_m2 163 rfl) rfl
theorem q497 : (Jvm.Cond.methodLink "java/lang/StringUTF16" (224 : Nat) ({ cls := "java/lang/Math", name := "max", desc := "(II)I" } : Jvm.MethodName)) ∈ lw_all := lw_g (lw_at lw_m2 164 rfl) rfl
theorem q498 : (Jvm.Cond.methodLink "java/lang/StringUTF16" (183 : Nat) ({ cls := "java/lang/Math", name := "min", desc := "(II)I" } : Jvm.MethodName)) ∈ lw_all := lw_g (lw_at lw_m2 165 rfl) rfl
theorem q499 : (Jvm.Cond.constant "java/lang/StringUTF16" (227 : Nat) (65536 : Int32)) ∈ lw_all := lw_g (lw_at lw_m2 166 rfl) rfl
theorem q500 : (Jvm.Cond.methodLink "java/lang/StringUTF16" (228 : Nat) ({ cls := "java/lang/StringUTF16", name := "indexOfChar", desc := "([BIII)I" } : Jvm.MethodName)) ∈ lw_all := lw_g (lw_at lw_m2 167 rfl) rfl
theorem q501 : (Jvm.Cond.static ({ cls := "java/lang/StringUTF16", name := "indexOfChar", desc := "([BIII)I" } : Jvm.MethodName)) ∈ lw_all := lw_g (lw_at lw_m2 168 rfl) rfl
theorem q502 : (Jvm.Cond.code ({ cls := "java/lang/StringUTF16", name := "indexOfChar", desc := "([BIII)I" } : Jvm.MethodName) prog_31_method_47_code (4 : Nat) (Option.some Jvm.ClassFile.FieldType.int)) ∈ lw_all := lw_g (lw_at lw_m2 169 rfl) rfl
theorem q503 : (Jvm.Cond.methodLink "java/lang/StringUTF16" (96 : Nat) ({ cls := "java/lang/StringUTF16", name := "checkBoundsBeginEnd", desc := "(II[B)V" } : Jvm.MethodName)) ∈ lw_all := lw_g (lw_at lw_m2 170 rfl) rfl
theorem q504 : (Jvm.Cond.static ({ cls := "java/lang/StringUTF16", name := "checkBoundsBeginEnd", desc := "(II[B)V" } : Jvm.MethodName)) ∈ lw_all := lw_g (lw_at lw_m2 171 rfl) rfl
theorem q505 : (Jvm.Cond.code ({ cls := "java/lang/StringUTF16", name := "checkBoundsBeginEnd", desc := "(II[B)V" } : Jvm.MethodName) prog_31_method_93_code (3 : Nat) (Option.none : Option Jvm.ClassFile.FieldType)) ∈ lw_all := lw_g (lw_at lw_m2 172 rfl) rfl
theorem q506 : (Jvm.Cond.methodLink "java/lang/StringUTF16" (48 : Nat) ({ cls := "java/lang/StringUTF16", name := "length", desc := "([B)I" } : Jvm.MethodName)) ∈ lw_all := lw_g (lw_at lw_m2 173 rfl) rfl
theorem q507 : (Jvm.Cond.static ({ cls := "java/lang/StringUTF16", name := "length", desc := "([B)I" } : Jvm.MethodName)) ∈ lw_all := lw_g (lw_at lw_m2 174 rfl) rfl
theorem q508 : (Jvm.Cond.code ({ cls := "java/lang/StringUTF16", name := "length", desc := "([B)I" } : Jvm.MethodName) prog_31_method_6_code (1 : Nat) (Option.some Jvm.ClassFile.FieldType.int)) ∈ lw_all := lw_g (lw_at lw_m2 175 rfl) rfl
theorem q509 : (Jvm.Cond.methodLink "java/lang/StringUTF16" (241 : Nat) ({ cls := "java/lang/String", name := "checkBoundsBeginEnd", desc := "(III)V" } : Jvm.MethodName)) ∈ lw_all := lw_g (lw_at lw_m2 176 rfl) rfl
theorem q510 : (Jvm.Cond.static ({ cls := "java/lang/String", name := "checkBoundsBeginEnd", desc := "(III)V" } : Jvm.MethodName)) ∈ lw_all := lw_g (lw_at lw_m2 177 rfl) rfl
theorem q511 : (Jvm.Cond.code ({ cls := "java/lang/String", name := "checkBoundsBeginEnd", desc := "(III)V" } : Jvm.MethodName) prog_29_method_158_code (3 : Nat) (Option.none : Option Jvm.ClassFile.FieldType)) ∈ lw_all := lw_g (lw_at lw_m2 178 rfl) rfl
theorem q512 : (Jvm.Cond.fieldLink "java/lang/String" (1053 : Nat) "jdk/internal/util/Preconditions" "SIOOBE_FORMATTER" "Ljava/util/function/BiFunction;") ∈ lw_all := lw_g (lw_at lw_m2 179 rfl) rfl
theorem q513 : (Jvm.Cond.laysStatic "jdk/internal/util/Preconditions" "SIOOBE_FORMATTER" "Ljava/util/function/BiFunction;") ∈ lw_tbl := lw_at lw_m2 180 rfl
theorem q514 : (Jvm.Cond.methodLink "java/lang/String" (1062 : Nat) ({ cls := "jdk/internal/util/Preconditions", name := "checkFromToIndex", desc := "(IIILjava/util/function/BiFunction;)I" } : Jvm.MethodName)) ∈ lw_all := lw_g (lw_at lw_m2 181 rfl) rfl
theorem q515 : (Jvm.Cond.static ({ cls := "jdk/internal/util/Preconditions", name := "checkFromToIndex", desc := "(IIILjava/util/function/BiFunction;)I" } : Jvm.MethodName)) ∈ lw_all := lw_g (lw_at lw_m2 182 rfl) rfl
theorem q516 : (Jvm.Cond.code ({ cls := "jdk/internal/util/Preconditions", name := "checkFromToIndex", desc := "(IIILjava/util/function/BiFunction;)I" } : Jvm.MethodName) prog_46_method_12_code (4 : Nat) (Option.some Jvm.ClassFile.FieldType.int)) ∈ lw_all := lw_g (lw_at lw_m2 183 rfl) rfl
theorem q517 : (Jvm.Cond.methodLink "java/lang/StringUTF16" (244 : Nat) ({ cls := "java/lang/StringUTF16", name := "indexOfCharUnsafe", desc := "([BIII)I" } : Jvm.MethodName)) ∈ lw_all := lw_g (lw_at lw_m2 184 rfl) rfl
theorem q518 : (Jvm.Cond.static ({ cls := "java/lang/StringUTF16", name := "indexOfCharUnsafe", desc := "([BIII)I" } : Jvm.MethodName)) ∈ lw_all := lw_g (lw_at lw_m2 185 rfl) rfl
theorem q519 : (Jvm.Cond.code ({ cls := "java/lang/StringUTF16", name := "indexOfCharUnsafe", desc := "([BIII)I" } : Jvm.MethodName) prog_31_method_48_code (5 : Nat) (Option.some Jvm.ClassFile.FieldType.int)) ∈ lw_all := lw_g (lw_at lw_m2 186 rfl) rfl
theorem q520 : (Jvm.Cond.methodLink "java/lang/StringUTF16" (71 : Nat) ({ cls := "java/lang/StringUTF16", name := "getChar", desc := "([BI)C" } : Jvm.MethodName)) ∈ lw_all := lw_g (lw_at lw_m2 187 rfl) rfl
theorem q521 : (Jvm.Cond.static ({ cls := "java/lang/StringUTF16", name := "getChar", desc := "([BI)C" } : Jvm.MethodName)) ∈ lw_all := lw_g (lw_at lw_m2 188 rfl) rfl
theorem q522 : (Jvm.Cond.code ({ cls := "java/lang/StringUTF16", name := "getChar", desc := "([BI)C" } : Jvm.MethodName) prog_31_method_5_code (2 : Nat) (Option.some Jvm.ClassFile.FieldType.char)) ∈ lw_all := lw_g (lw_at lw_m2 189 rfl) rfl
theorem q523 : (Jvm.Cond.fieldLink "java/lang/StringUTF16" (44 : Nat) "java/lang/StringUTF16" "$assertionsDisabled" "Z") ∈ lw_all := lw_g (lw_at lw_m2 190 rfl) rfl
theorem q524 : (Jvm.Cond.laysStatic "java/lang/StringUTF16" "$assertionsDisabled" "Z") ∈ lw_tbl := lw_at lw_m2 191 rfl
theorem q525 : (Jvm.Cond.fieldLink "java/lang/StringUTF16" (59 : Nat) "java/lang/StringUTF16" "HI_BYTE_SHIFT" "I") ∈ lw_all := lw_g (lw_at lw_m2 192 rfl) rfl
theorem q526 : (Jvm.Cond.laysStatic "java/lang/StringUTF16" "HI_BYTE_SHIFT" "I") ∈ lw_tbl := lw_at lw_m2 193 rfl
theorem q527 : (Jvm.Cond.fieldLink "java/lang/StringUTF16" (63 : Nat) "java/lang/StringUTF16" "LO_BYTE_SHIFT" "I") ∈ lw_all := lw_g (lw_at lw_m2 194 rfl) rfl
theorem q528 : (Jvm.Cond.laysStatic "java/lang/StringUTF16" "LO_BYTE_SHIFT" "I") ∈ lw_tbl := lw_at lw_m2 195 rfl
theorem q529 : (Jvm.Cond.methodLink "java/lang/StringUTF16" (232 : Nat) ({ cls := "java/lang/StringUTF16", name := "indexOfSupplementary", desc := "([BIII)I" } : Jvm.MethodName)) ∈ lw_all := lw_g (lw_at lw_m2 196 rfl) rfl
theorem q530 : (Jvm.Cond.static ({ cls := "java/lang/StringUTF16", name := "indexOfSupplementary", desc := "([BIII)I" } : Jvm.MethodName)) ∈ lw_all := lw_g (lw_at lw_m2 197 rfl) rfl
theorem q531 : (Jvm.Cond.code ({ cls := "java/lang/StringUTF16", name := "indexOfSupplementary", desc := "([BIII)I" } : Jvm.MethodName) prog_31_method_49_code (7 : Nat) (Option.some Jvm.ClassFile.FieldType.int)) ∈ lw_all := lw_g (lw_at lw_m2 198 rfl) rfl
theorem q532 : (Jvm.Cond.methodLink "java/lang/StringUTF16" (164 : Nat) ({ cls := "java/lang/Character", name := "isValidCodePoint", desc := "(I)Z" } : Jvm.MethodName)) ∈ lw_all := lw_g (lw_at lw_m2 199 rfl) rfl
theorem q533 : (Jvm.Cond.static ({ cls := "java/lang/Character", name := "isValidCodePoint", desc := "(I)Z" } : Jvm.MethodName)) ∈ lw_all := lw_g (lw_at lw_m2 200 rfl) rfl
theorem q534 : (Jvm.Cond.code ({ cls := "java/lang/Character", name := "isValidCodePoint", desc := "(I)Z" } : Jvm.MethodName) prog_19_method_11_code (2 : Nat) (Option.some Jvm.ClassFile.FieldType.boolean)) ∈ lw_all := lw_g (lw_at lw_m2 201 rfl) rfl
theorem q535 : (Jvm.Cond.methodLink "java/lang/StringUTF16" (157 : Nat) ({ cls := "java/lang/Character", name := "highSurrogate", desc := "(I)C" } : Jvm.MethodName)) ∈ lw_all := lw_g (lw_at lw_m2 202 rfl) rfl
theorem q536 : (Jvm.Cond.static ({ cls := "java/lang/Character", name := "highSurrogate", desc := "(I)C" } : Jvm.MethodName)) ∈ lw_all := lw_g (lw_at lw_m2 203 rfl) rfl
theorem q537 : (Jvm.Cond.code ({ cls := "java/lang/Character", name := "highSurrogate", desc := "(I)C" } : Jvm.MethodName) prog_19_method_28_code (1 : Nat) (Option.some Jvm.ClassFile.FieldType.char)) ∈ lw_all := lw_g (lw_at lw_m2 204 rfl) rfl
theorem q538 : (Jvm.Cond.constant "java/lang/Character" (110 : Nat) (55232 : Int32)) ∈ lw_all := lw_g (lw_at lw_m2 205 rfl) rfl
theorem q539 : (Jvm.Cond.methodLink "java/lang/StringUTF16" (161 : Nat) ({ cls := "java/lang/Character", name := "lowSurrogate", desc := "(I)C" } : Jvm.MethodName)) ∈ lw_all := lw_g (lw_at lw_m2 206 rfl) rfl
theorem q540 : (Jvm.Cond.static ({ cls := "java/lang/Character", name := "lowSurrogate", desc := "(I)C" } : Jvm.MethodName)) ∈ lw_all := lw_g (lw_at lw_m2 207 rfl) rfl
theorem q541 : (Jvm.Cond.code ({ cls := "java/lang/Character", name := "lowSurrogate", desc := "(I)C" } : Jvm.MethodName) prog_19_method_29_code (1 : Nat) (Option.some Jvm.ClassFile.FieldType.char)) ∈ lw_all := lw_g (lw_at lw_m2 208 rfl) rfl
theorem q542 : (Jvm.Cond.constant "java/lang/Character" (76 : Nat) (56320 : Int32)) ∈ lw_all := lw_g (lw_at lw_m2 209 rfl) rfl
theorem q543 : (Jvm.Cond.methodLink "Samovar$Text" (47 : Nat) ({ cls := "Samovar$Text", name := "part", desc := "(I)V" } : Jvm.MethodName)) ∈ lw_all := lw_g (lw_at lw_m2 210 rfl) rfl
theorem q544 : (Jvm.Cond.declares ({ cls := "Samovar$Text", name := "part", desc := "(I)V" } : Jvm.MethodName)) ∈ lw_tbl := lw_at lw_m2 211 rfl
theorem q545 : (Jvm.Cond.sameMethod "Samovar$Text" "Samovar$Text" "part" "(I)V") ∈ lw_all := lw_g (lw_at lw_m2 212 rfl) rfl
theorem q546 : (Jvm.Cond.selects "Samovar$Company" ({ cls := "Samovar$Text", name := "part", desc := "(I)V" } : Jvm.MethodName) ({ cls := "Samovar$Company", name := "part", desc := "(I)V" } : Jvm.MethodName)) ∈ lw_all := lw_g (lw_at lw_m2 213 rfl) rfl
theorem q547 : (Jvm.Cond.instanceMethod ({ cls := "Samovar$Company", name := "part", desc := "(I)V" } : Jvm.MethodName)) ∈ lw_all := lw_g (lw_at lw_m2 214 rfl) rfl
theorem q548 : (Jvm.Cond.code ({ cls := "Samovar$Company", name := "part", desc := "(I)V" } : Jvm.MethodName) prog_4_method_4_code (3 : Nat) (Option.none : Option Jvm.ClassFile.FieldType)) ∈ lw_all := lw_g (lw_at lw_m2 215 rfl) rfl
theorem q549 : (Jvm.Cond.fieldLinkNest "Samovar$Company" (23 : Nat) "Samovar" "TASTE" "[LSamovar$Taste;" "Samovar") ∈ lw_tbl := lw_at lw_m2 216 rfl
theorem q550 : (Jvm.Cond.laysStatic "Samovar" "TASTE" "[LSamovar$Taste;") ∈ lw_tbl := lw_at lw_m2 217 rfl
theorem q551 : (Jvm.Cond.stringRef "Samovar$Company" (29 : Nat) "wd") ∈ lw_tbl := lw_at lw_m2 218 rfl
theorem q552 : (Jvm.Cond.methodLink "Samovar$Company" (31 : Nat) ({ cls := "Samovar$Company", name := "passes", desc := "(Ljava/lang/String;)I" } : Jvm.MethodName)) ∈ lw_all := lw_g (lw_at lw_m2 219 rfl) rfl
theorem q553 : (Jvm.Cond.sameMethod "Samovar$Company" "Samovar$Text" "passes" "(Ljava/lang/String;)I") ∈ lw_all := lw_g (lw_at lw_m2 220 rfl) rfl
theorem q554 : (Jvm.Cond.declares ({ cls := "Samovar$Text", name := "passes", desc := "(Ljava/lang/String;)I" } : Jvm.MethodName)) ∈ lw_tbl := lw_at lw_m2 221 rfl
theorem q555 : (Jvm.Cond.selects "Samovar$Company" ({ cls := "Samovar$Company", name := "passes", desc := "(Ljava/lang/String;)I" } : Jvm.MethodName) ({ cls := "Samovar$Text", name := "passes", desc := "(Ljava/lang/String;)I" } : Jvm.MethodName)) ∈ lw_all := lw_g (lw_at lw_m2 222 rfl) rfl
theorem q556 : (Jvm.Cond.classLink "Samovar$Company" (35 : Nat) "Samovar$Guest") ∈ lw_all := lw_g (lw_at lw_m2 223 rfl) rfl
theorem q557 : (Jvm.Cond.instantiable "Samovar$Guest" (8 : Nat)) ∈ lw_all := lw_g (lw_at lw_m2 224 rfl) rfl
theorem q558 : (Jvm.Cond.stringRef "Samovar$Company" (37 : Nat) "1234") ∈ lw_tbl := lw_at lw_m2 225 rfl
theorem q559 : (Jvm.Cond.methodLink "Samovar$Company" (39 : Nat) ({ cls := "Samovar$Guest", name := "<init>", desc := "(ILSamovar$Taste;I)V" } : Jvm.MethodName)) ∈ lw_all := lw_g (lw_at lw_m2 226 rfl) rfl
theorem q560 : (Jvm.Cond.instanceMethod ({ cls := "Samovar$Guest", name := "<init>", desc := "(ILSamovar$Taste;I)V" } : Jvm.MethodName)) ∈ lw_all := lw_g (lw_at lw_m2 227 rfl) rfl
theorem q561 : (Jvm.Cond.code ({ cls := "Samovar$Guest", name := "<init>", desc := "(ILSamovar$Taste;I)V" } : Jvm.MethodName) prog_7_method_1_code (4 : Nat) (Option.none : Option Jvm.ClassFile.FieldType)) ∈ lw_all := lw_g (lw_at lw_m2 228 rfl) rfl
theorem q562 : (Jvm.Cond.methodLink "Samovar$Guest" (3 : Nat) ({ cls := "java/lang/Object", name := "<init>", desc := "()V" } : Jvm.MethodName)) ∈ lw_all := lw_g (lw_at lw_m2 229 rfl) rfl
theorem q563 : (Jvm.Cond.fieldLink "Samovar$Guest" (9 : Nat) "Samovar$Guest" "minute" "I") ∈ lw_all := lw_g (lw_at lw_m2 230 rfl) rfl
theorem q564 : (Jvm.Cond.fieldLinkNest "Samovar" (328 : Nat) "Samovar$Guest" "minute" "I" "Samovar") ∈ lw_tbl := lw_at lw_m2 231 rfl
theorem q565 : (Jvm.Cond.fieldLink "Samovar$Guest" (15 : Nat) "Samovar$Guest" "taste" "LSamovar$Taste;") ∈ lw_all := lw_g (lw_at lw_m2 232 rfl) rfl
theorem q566 : (Jvm.Cond.fieldLinkNest "Samovar" (228 : Nat) "Samovar$Guest" "taste" "LSamovar$Taste;" "Samovar") ∈ lw_tbl := lw_at lw_m2 233 rfl
theorem q567 : (Jvm.Cond.fieldLink "Samovar$Guest" (19 : Nat) "Samovar$Guest" "glasses" "I") ∈ lw_all := lw_g (lw_at lw_m2 234 rfl) rfl
theorem q568 : (Jvm.Cond.fieldLinkNest "Samovar" (307 : Nat) "Samovar$Guest" "glasses" "I" "Samovar") ∈ lw_tbl := lw_at lw_m2 235 rfl
theorem q569 : (Jvm.Cond.fieldLink "Samovar$Guest" (28 : Nat) "Samovar$Guest" "state" "I") ∈ lw_all := lw_g (lw_at lw_m2 236 rfl) rfl
theorem q570 : (Jvm.Cond.fieldLinkNest "Samovar" (250 : Nat) "Samovar$Guest" "state" "I" "Samovar") ∈ lw_tbl := lw_at lw_m2 237 rfl
theorem q571 : (Jvm.Cond.fieldLink "Samovar$Guest" (31 : Nat) "Samovar$Guest" "had" "I") ∈ lw_all := lw_g (lw_at lw_m2 238 rfl) rfl
theorem q572 : (Jvm.Cond.fieldLinkNest "Samovar" (270 : Nat) "Samovar$Guest" "had" "I" "Samovar") ∈ lw_tbl := lw_at lw_m2 239 rfl
theorem q573 : (Jvm.Cond.fieldLink "Samovar$Guest" (34 : Nat) "Samovar$Guest" "back" "I") ∈ lw_all := lw_g (lw_at lw_m3 0 rfl) rfl
theorem q574 : (Jvm.Cond.fieldLink "Samovar$Guest" (37 : Nat) "Samovar$Guest" "waits" "I") ∈ lw_all := lw_g (lw_at lw_m3 1 rfl) rfl
theorem q575 : (Jvm.Cond.fieldLinkNest "Samovar" (247 : Nat) "Samovar$Guest" "waits" "I" "Samovar") ∈ lw_tbl := lw_at lw_m3 2 rfl
theorem q576 : (Jvm.Cond.fieldLink "Samovar$Guest" (40 : Nat) "Samovar$Guest" "waited" "I") ∈ lw_all := lw_g (lw_at lw_m3 3 rfl) rfl
theorem q577 : (Jvm.Cond.fieldLinkNest "Samovar" (273 : Nat) "Samovar$Guest" "waited" "I" "Samovar") ∈ lw_tbl := lw_at lw_m3 4 rfl
theorem q578 : (Jvm.Cond.lays "Samovar$Guest" "Samovar$Guest" "minute" "I") ∈ lw_all := lw_g (lw_at lw_m3 5 rfl) rfl
theorem q579 : (Jvm.Cond.soleField "Samovar$Guest" "minute") ∈ lw_all := lw_g (lw_at lw_m3 6 rfl) rfl
theorem q580 : (Jvm.Cond.lays "Samovar$Guest" "Samovar$Guest" "taste" "LSamovar$Taste;") ∈ lw_all := lw_g (lw_at lw_m3 7 rfl) rfl
theorem q581 : (Jvm.Cond.soleField "Samovar$Guest" "taste") ∈ lw_all := lw_g (lw_at lw_m3 8 rfl) rfl
theorem q582 : (Jvm.Cond.lays "Samovar$Guest" "Samovar$Guest" "glasses" "I") ∈ lw_all := lw_g (lw_at lw_m3 9 rfl) rfl
theorem q583 : (Jvm.Cond.soleField "Samovar$Guest" "glasses") ∈ lw_all := lw_g (lw_at lw_m3 10 rfl) rfl
theorem q584 : (Jvm.Cond.lays "Samovar$Guest" "Samovar$Guest" "state" "I") ∈ lw_all := lw_g (lw_at lw_m3 11 rfl) rfl
theorem q585 : (Jvm.Cond.soleField "Samovar$Guest" "state") ∈ lw_all := lw_g (lw_at lw_m3 12 rfl) rfl
theorem q586 : (Jvm.Cond.lays "Samovar$Guest" "Samovar$Guest" "had" "I") ∈ lw_all := lw_g (lw_at lw_m3 13 rfl) rfl
theorem q587 : (Jvm.Cond.soleField "Samovar$Guest" "had") ∈ lw_all := lw_g (lw_at lw_m3 14 rfl) rfl
theorem q588 : (Jvm.Cond.lays "Samovar$Guest" "Samovar$Guest" "back" "I") ∈ lw_all := lw_g (lw_at lw_m3 15 rfl) rfl
theorem q589 : (Jvm.Cond.soleField "Samovar$Guest" "back") ∈ lw_all := lw_g (lw_at lw_m3 16 rfl) rfl
theorem q590 : (Jvm.Cond.lays "Samovar$Guest" "Samovar$Guest" "waits" "I") ∈ lw_all := lw_g (lw_at lw_m3 17 rfl) rfl
theorem q591 : (Jvm.Cond.soleField "Samovar$Guest" "waits") ∈ lw_all := lw_g (lw_at lw_m3 18 rfl) rfl
theorem q592 : (Jvm.Cond.lays "Samovar$Guest" "Samovar$Guest" "waited" "I") ∈ lw_all := lw_g (lw_at lw_m3 19 rfl) rfl
theorem q593 : (Jvm.Cond.soleField "Samovar$Guest" "waited") ∈ lw_all := lw_g (lw_at lw_m3 20 rfl) rfl
theorem q594 : (Jvm.Cond.superclass "Samovar$Guest" "java/lang/Object") ∈ lw_all := lw_g (lw_at lw_m3 21 rfl) rfl
theorem q595 : (Jvm.Cond.methodLink "Samovar$Company" (42 : Nat) ({ cls := "java/util/ArrayList", name := "add", desc := "(Ljava/lang/Object;)Z" } : Jvm.MethodName)) ∈ lw_all := lw_g (lw_at lw_m3 22 rfl) rfl
theorem q596 : (Jvm.Cond.instanceMethod ({ cls := "java/util/ArrayList", name := "add", desc := "(Ljava/lang/Object;)Z" } : Jvm.MethodName)) ∈ lw_all := lw_g (lw_at lw_m3 23 rfl) rfl
theorem q597 : (Jvm.Cond.selects "java/util/ArrayList" ({ cls := "java/util/ArrayList", name := "add", desc := "(Ljava/lang/Object;)Z" } : Jvm.MethodName) ({ cls := "java/util/ArrayList", name := "add", desc := "(Ljava/lang/Object;)Z" } : Jvm.MethodName)) ∈ lw_all := lw_g (lw_at lw_m3 24 rfl) rfl
theorem q598 : (Jvm.Cond.code ({ cls := "java/util/ArrayList", name := "add", desc := "(Ljava/lang/Object;)Z" } : Jvm.MethodName) prog_38_method_25_code (2 : Nat) (Option.some Jvm.ClassFile.FieldType.boolean)) ∈ lw_all := lw_g (lw_at lw_m3 25 rfl) rfl
theorem q599 : (Jvm.Cond.methodLink "java/util/ArrayList" (131 : Nat) ({ cls := "java/util/ArrayList", name := "add", desc := "(Ljava/lang/Object;[Ljava/lang/Object;I)V" } : Jvm.MethodName)) ∈ lw_all := lw_g (lw_at lw_m3 26 rfl) rfl
theorem q600 : (Jvm.Cond.privateMethod ({ cls := "java/util/ArrayList", name := "add", desc := "(Ljava/lang/Object;[Ljava/lang/Object;I)V" } : Jvm.MethodName)) ∈ lw_tbl := lw_at lw_m3 27 rfl
theorem q601 : (Jvm.Cond.instanceMethod ({ cls := "java/util/ArrayList", name := "add", desc := "(Ljava/lang/Object;[Ljava/lang/Object;I)V" } : Jvm.MethodName)) ∈ lw_all := lw_g (lw_at lw_m3 28 rfl) rfl
theorem q602 : (Jvm.Cond.code ({ cls := "java/util/ArrayList", name := "add", desc := "(Ljava/lang/Object;[Ljava/lang/Object;I)V" } : Jvm.MethodName) prog_38_method_24_code (4 : Nat) (Option.none : Option Jvm.ClassFile.FieldType)) ∈ lw_all := lw_g (lw_at lw_m3 29 rfl) rfl
theorem q603 : (Jvm.Cond.methodLink "java/util/ArrayList" (129 : Nat) ({ cls := "java/util/ArrayList", name := "grow", desc := "()[Ljava/lang/Object;" } : Jvm.MethodName)) ∈ lw_all := lw_g (lw_at lw_m3 30 rfl) rfl
theorem q604 : (Jvm.Cond.privateMethod ({ cls := "java/util/ArrayList", name := "grow", desc := "()[Ljava/lang/Object;" } : Jvm.MethodName)) ∈ lw_tbl := lw_at lw_m3 31 rfl
theorem q605 : (Jvm.Cond.instanceMethod ({ cls := "java/util/ArrayList", name := "grow", desc := "()[Ljava/lang/Object;" } : Jvm.MethodName)) ∈ lw_all := lw_g (lw_at lw_m3 32 rfl) rfl
theorem q606 : (Jvm.Cond.code ({ cls := "java/util/ArrayList", name := "grow", desc := "()[Ljava/lang/Object;" } : Jvm.MethodName) prog_38_method_7_code (1 : Nat) (Option.some (Jvm.ClassFile.FieldType.array (Jvm.ClassFile.FieldType.object "java/lang/Object")))) ∈ lw_all := lw_g (lw_at lw_m3 33 rfl) rfl
theorem q607 : (Jvm.Cond.methodLink "java/util/ArrayList" (69 : Nat) ({ cls := "java/util/ArrayList", name := "grow", desc := "(I)[Ljava/lang/Object;" } : Jvm.MethodName)) ∈ lw_all := lw_g (lw_at lw_m3 34 rfl) rfl
theorem q608 : (Jvm.Cond.privateMethod ({ cls := "java/util/ArrayList", name := "grow", desc := "(I)[Ljava/lang/Object;" } : Jvm.MethodName)) ∈ lw_tbl := lw_at lw_m3 35 rfl
theorem q609 : (Jvm.Cond.instanceMethod ({ cls := "java/util/ArrayList", name := "grow", desc := "(I)[Ljava/lang/Object;" } : Jvm.MethodName)) ∈ lw_all := lw_g (lw_at lw_m3 36 rfl) rfl
theorem q610 : (Jvm.Cond.code ({ cls := "java/util/ArrayList", name := "grow", desc := "(I)[Ljava/lang/Object;" } : Jvm.MethodName) prog_38_method_6_code (4 : Nat) (Option.some (Jvm.ClassFile.FieldType.array (Jvm.ClassFile.FieldType.object "java/lang/Object")))) ∈ lw_all := lw_g (lw_at lw_m3 37 rfl) rfl
theorem q611 : (Jvm.Cond.methodLink "java/util/ArrayList" (73 : Nat) ({ cls := "jdk/internal/util/ArraysSupport", name := "newLength", desc := "(III)I" } : Jvm.MethodName)) ∈ lw_all := lw_g (lw_at lw_m3 38 rfl) rfl
theorem q612 : (Jvm.Cond.static ({ cls := "jdk/internal/util/ArraysSupport", name := "newLength", desc := "(III)I" } : Jvm.MethodName)) ∈ lw_all := lw_g (lw_at lw_m3 39 rfl) rfl
theorem q613 : (Jvm.Cond.code ({ cls := "jdk/internal/util/ArraysSupport", name := "newLength", desc := "(III)I" } : Jvm.MethodName) prog_45_method_27_code (4 : Nat) (Option.some Jvm.ClassFile.FieldType.int)) ∈ lw_all := lw_g (lw_at lw_m3 40 rfl) rfl
theorem q614 : (Jvm.Cond.methodLink "jdk/internal/util/ArraysSupport" (194 : Nat) ({ cls := "java/lang/Math", name := "max", desc := "(II)I" } : Jvm.MethodName)) ∈ lw_all := lw_g (lw_at lw_m3 41 rfl) rfl
theorem q615 : (Jvm.Cond.constant "jdk/internal/util/ArraysSupport" (200 : Nat) (2147483639 : Int32)) ∈ lw_all := lw_g (lw_at lw_m3 42 rfl) rfl
theorem q616 : (Jvm.Cond.methodLink "jdk/internal/util/ArraysSupport" (201 : Nat) ({ cls := "jdk/internal/util/ArraysSupport", name := "hugeLength", desc := "(II)I" } : Jvm.MethodName)) ∈ lw_all := lw_g (lw_at lw_m3 43 rfl) rfl
theorem q617 : (Jvm.Cond.static ({ cls := "jdk/internal/util/ArraysSupport", name := "hugeLength", desc := "(II)I" } : Jvm.MethodName)) ∈ lw_all := lw_g (lw_at lw_m3 44 rfl) rfl
theorem q618 : (Jvm.Cond.code ({ cls := "jdk/internal/util/ArraysSupport", name := "hugeLength", desc := "(II)I" } : Jvm.MethodName) prog_45_method_28_code (3 : Nat) (Option.some Jvm.ClassFile.FieldType.int)) ∈ lw_all := lw_g (lw_at lw_m3 45 rfl) rfl
theorem q619 : (Jvm.Cond.methodLink "java/util/ArrayList" (66 : Nat) ({ cls := "java/util/Arrays", name := "copyOf", desc := "([Ljava/lang/Object;I)[Ljava/lang/Object;" } : Jvm.MethodName)) ∈ lw_all := lw_g (lw_at lw_m3 46 rfl) rfl
theorem q620 : (Jvm.Cond.static ({ cls := "java/util/Arrays", name := "copyOf", desc := "([Ljava/lang/Object;I)[Ljava/lang/Object;" } : Jvm.MethodName)) ∈ lw_all := lw_g (lw_at lw_m3 47 rfl) rfl
theorem q621 : (Jvm.Cond.code ({ cls := "java/util/Arrays", name := "copyOf", desc := "([Ljava/lang/Object;I)[Ljava/lang/Object;" } : Jvm.MethodName) prog_39_method_119_code (2 : Nat) (Option.some (Jvm.ClassFile.FieldType.array (Jvm.ClassFile.FieldType.object "java/lang/Object")))) ∈ lw_all := lw_g (lw_at lw_m3 48 rfl) rfl
theorem q622 : (Jvm.Cond.methodLink "java/util/Arrays" (86 : Nat) ({ cls := "java/lang/Object", name := "getClass", desc := "()Ljava/lang/Class;" } : Jvm.MethodName)) ∈ lw_all := lw_g (lw_at lw_m3 49 rfl) rfl
theorem q623 : (Jvm.Cond.instanceMethod ({ cls := "java/lang/Object", name := "getClass", desc := "()Ljava/lang/Class;" } : Jvm.MethodName)) ∈ lw_all := lw_g (lw_at lw_m3 50 rfl) rfl
theorem q624 : (Jvm.Cond.sameMethod "java/lang/Object" "java/lang/Object" "getClass" "()Ljava/lang/Class;") ∈ lw_all := lw_g (lw_at lw_m3 51 rfl) rfl
theorem q625 : (Jvm.Cond.selects "Samovar" ({ cls := "java/lang/Object", name := "getClass", desc := "()Ljava/lang/Class;" } : Jvm.MethodName) ({ cls := "java/lang/Object", name := "getClass", desc := "()Ljava/lang/Class;" } : Jvm.MethodName)) ∈ lw_all := lw_g (lw_at lw_m3 52 rfl) rfl
theorem q626 : (Jvm.Cond.selects "Samovar$Birch" ({ cls := "java/lang/Object", name := "getClass", desc := "()Ljava/lang/Class;" } : Jvm.MethodName) ({ cls := "java/lang/Object", name := "getClass", desc := "()Ljava/lang/Class;" } : Jvm.MethodName)) ∈ lw_all := lw_g (lw_at lw_m3 53 rfl) rfl
theorem q627 : (Jvm.Cond.selects "Samovar$Charcoal" ({ cls := "java/lang/Object", name := "getClass", desc := "()Ljava/lang/Class;" } : Jvm.MethodName) ({ cls := "java/lang/Object", name := "getClass", desc := "()Ljava/lang/Class;" } : Jvm.MethodName)) ∈ lw_all := lw_g (lw_at lw_m3 54 rfl) rfl
theorem q628 : (Jvm.Cond.selects "Samovar$Company" ({ cls := "java/lang/Object", name := "getClass", desc := "()Ljava/lang/Class;" } : Jvm.MethodName) ({ cls := "java/lang/Object", name := "getClass", desc := "()Ljava/lang/Class;" } : Jvm.MethodName)) ∈ lw_all := lw_g (lw_at lw_m3 55 rfl) rfl
theorem q629 : (Jvm.Cond.selects "Samovar$Dark" ({ cls := "java/lang/Object", name := "getClass", desc := "()Ljava/lang/Class;" } : Jvm.MethodName) ({ cls := "java/lang/Object", name := "getClass", desc := "()Ljava/lang/Class;" } : Jvm.MethodName)) ∈ lw_all := lw_g (lw_at lw_m3 56 rfl) rfl
theorem q630 : (Jvm.Cond.selects "Samovar$Fuel" ({ cls := "java/lang/Object", name := "getClass", desc := "()Ljava/lang/Class;" } : Jvm.MethodName) ({ cls := "java/lang/Object", name := "getClass", desc := "()Ljava/lang/Class;" } : Jvm.MethodName)) ∈ lw_all := lw_g (lw_at lw_m3 57 rfl) rfl
theorem q631 : (Jvm.Cond.selects "Samovar$Guest" ({ cls := "java/lang/Object", name := "getClass", desc := "()Ljava/lang/Class;" } : Jvm.MethodName) ({ cls := "java/lang/Object", name := "getClass", desc := "()Ljava/lang/Class;" } : Jvm.MethodName)) ∈ lw_all := lw_g (lw_at lw_m3 58 rfl) rfl
theorem q632 : (Jvm.Cond.selects "Samovar$Piece" ({ cls := "java/lang/Object", name := "getClass", desc := "()Ljava/lang/Class;" } : Jvm.MethodName) ({ cls := "java/lang/Object", name := "getClass", desc := "()Ljava/lang/Class;" } : Jvm.MethodName)) ∈ lw_all := lw_g (lw_at lw_m3 59 rfl) rfl
theorem q633 : (Jvm.Cond.selects "Samovar$Sheet" ({ cls := "java/lang/Object", name := "getClass", desc := "()Ljava/lang/Class;" } : Jvm.MethodName) ({ cls := "java/lang/Object", name := "getClass", desc := "()Ljava/lang/Class;" } : Jvm.MethodName)) ∈ lw_all := lw_g (lw_at lw_m3 60 rfl) rfl
theorem q634 : (Jvm.Cond.selects "Samovar$Taste" ({ cls := "java/lang/Object", name := "getClass", desc := "()Ljava/lang/Class;" } : Jvm.MethodName) ({ cls := "java/lang/Object", name := "getClass", desc := "()Ljava/lang/Class;" } : Jvm.MethodName)) ∈ lw_all := lw_g (lw_at lw_m3 61 rfl) rfl
theorem q635 : (Jvm.Cond.selects "Samovar$Torn" ({ cls := "java/lang/Object", name := "getClass", desc := "()Ljava/lang/Class;" } : Jvm.MethodName) ({ cls := "java/lang/Object", name := "getClass", desc := "()Ljava/lang/Class;" } : Jvm.MethodName)) ∈ lw_all := lw_g (lw_at lw_m3 62 rfl) rfl
theorem q636 : (Jvm.Cond.selects "Samovar$Woodpile" ({ cls := "java/lang/Object", name := "getClass", desc := "()Ljava/lang/Class;" } : Jvm.MethodName) ({ cls := "java/lang/Object", name := "getClass", desc := "()Ljava/lang/Class;" } : Jvm.MethodName)) ∈ lw_all := lw_g (lw_at lw_m3 63 rfl) rfl
theorem q637 : (Jvm.Cond.selects "SamovarModel" ({ cls := "java/lang/Object", name := "getClass", desc := "()Ljava/lang/Class;" } : Jvm.MethodName) ({ cls := "java/lang/Object", name := "getClass", desc := "()Ljava/lang/Class;" } : Jvm.MethodName)) ∈ lw_all := lw_g (lw_at lw_m3 64 rfl) rfl
theorem q638 : (Jvm.Cond.selects "java/lang/ArrayIndexOutOfBoundsException" ({ cls := "java/lang/Object", name := "getClass", desc := "()Ljava/lang/Class;" } : Jvm.MethodName) ({ cls := "java/lang/Object", name := "getClass", desc := "()Ljava/lang/Class;" } : Jvm.MethodName)) ∈ lw_all := lw_g (lw_at lw_m3 65 rfl) rfl
theorem q639 : (Jvm.Cond.selects "java/lang/ClassCastException" ({ cls := "java/lang/Object", name := "getClass", desc := "()Ljava/lang/Class;" } : Jvm.MethodName) ({ cls := "java/lang/Object", name := "getClass", desc := "()Ljava/lang/Class;" } : Jvm.MethodName)) ∈ lw_all := lw_g (lw_at lw_m3 66 rfl) rfl
theorem q640 : (Jvm.Cond.selects "java/lang/NegativeArraySizeException" ({ cls := "java/lang/Object", name := "getClass", desc := "()Ljava/lang/Class;" } : Jvm.MethodName) ({ cls := "java/lang/Object", name := "getClass", desc := "()Ljava/lang/Class;" } : Jvm.MethodName)) ∈ lw_all := lw_g (lw_at lw_m3 67 rfl) rfl
theorem q641 : (Jvm.Cond.selects "java/util/ArrayList" ({ cls := "java/lang/Object", name := "getClass", desc := "()Ljava/lang/Class;" } : Jvm.MethodName) ({ cls := "java/lang/Object", name := "getClass", desc := "()Ljava/lang/Class;" } : Jvm.MethodName)) ∈ lw_all := lw_g (lw_at lw_m3 68 rfl) rfl
theorem q642 : (Jvm.Cond.native ({ cls := "java/lang/Object", name := "getClass", desc := "()Ljava/lang/Class;" } : Jvm.MethodName)) ∈ lw_all := lw_g (lw_at lw_m3 69 rfl) rfl
theorem q643 : (Jvm.Cond.methodLink "java/util/Arrays" (300 : Nat) ({ cls := "java/util/Arrays", name := "copyOf", desc := "([Ljava/lang/Object;ILjava/lang/Class;)[Ljava/lang/Object;" } : Jvm.MethodName)) ∈ lw_all := lw_g (lw_at lw_m3 70 rfl) rfl
theorem q644 : (Jvm.Cond.static ({ cls := "java/util/Arrays", name := "copyOf", desc := "([Ljava/lang/Object;ILjava/lang/Class;)[Ljava/lang/Object;" } : Jvm.MethodName)) ∈ lw_all := lw_g (lw_at lw_m3 71 rfl) rfl
theorem q645 : (Jvm.Cond.code ({ cls := "java/util/Arrays", name := "copyOf", desc := "([Ljava/lang/Object;ILjava/lang/Class;)[Ljava/lang/Object;" } : Jvm.MethodName) prog_39_method_120_code (4 : Nat) (Option.some (Jvm.ClassFile.FieldType.array (Jvm.ClassFile.FieldType.object "java/lang/Object")))) ∈ lw_all := lw_g (lw_at lw_m3 72 rfl) rfl
theorem q646 : (Jvm.Cond.classLink "java/util/Arrays" (110 : Nat) "[Ljava/lang/Object;") ∈ lw_all := lw_g (lw_at lw_m3 73 rfl) rfl
theorem q647 : (Jvm.Cond.arrayOver (Jvm.ClassFile.FieldType.object "java/lang/Object")) ∈ lw_tbl := lw_at lw_m3 74 rfl
theorem q648 : (Jvm.Cond.classLink "java/util/Arrays" (2 : Nat) "java/lang/Object") ∈ lw_all := lw_g (lw_at lw_m3 75 rfl) rfl
theorem q649 : (Jvm.Cond.methodLink "java/util/Arrays" (304 : Nat) ({ cls := "java/lang/Math", name := "min", desc := "(II)I" } : Jvm.MethodName)) ∈ lw_all := lw_g (lw_at lw_m3 76 rfl) rfl
theorem q650 : (Jvm.Cond.methodLink "java/util/Arrays" (150 : Nat) ({ cls := "java/lang/System", name := "arraycopy", desc := "(Ljava/lang/Object;ILjava/lang/Object;II)V" } : Jvm.MethodName)) ∈ lw_all := lw_g (lw_at lw_m3 77 rfl) rfl
theorem q651 : (Jvm.Cond.static ({ cls := "java/lang/System", name := "arraycopy", desc := "(Ljava/lang/Object;ILjava/lang/Object;II)V" } : Jvm.MethodName)) ∈ lw_all := lw_g (lw_at lw_m3 78 rfl) rfl
theorem q652 : (Jvm.Cond.native ({ cls := "java/lang/System", name := "arraycopy", desc := "(Ljava/lang/Object;ILjava/lang/Object;II)V" } : Jvm.MethodName)) ∈ lw_all := lw_g (lw_at lw_m3 79 rfl) rfl
theorem q653 : (Jvm.Cond.methodLink "java/util/ArrayList" (79 : Nat) ({ cls := "java/lang/Math", name := "max", desc := "(II)I" } : Jvm.MethodName)) ∈ lw_all := lw_g (lw_at lw_m3 80 rfl) rfl
theorem q654 : (Jvm.Cond.classLink "java/util/ArrayList" (7 : Nat) "java/lang/Object") ∈ lw_all := lw_g (lw_at lw_m3 81 rfl) rfl
theorem q655 : (Jvm.Cond.selects "Samovar$Woodpile" ({ cls := "Samovar$Text", name := "part", desc := "(I)V" } : Jvm.MethodName) ({ cls := "Samovar$Woodpile", name := "part", desc := "(I)V" } : Jvm.MethodName)) ∈ lw_all := lw_g (lw_at lw_m3 82 rfl) rfl
theorem q656 : (Jvm.Cond.instanceMethod ({ cls := "Samovar$Woodpile", name := "part", desc := "(I)V" } : Jvm.MethodName)) ∈ lw_all := lw_g (lw_at lw_m3 83 rfl) rfl
theorem q657 : (Jvm.Cond.code ({ cls := "Samovar$Woodpile", name := "part", desc := "(I)V" } : Jvm.MethodName) prog_13_method_4_code (3 : Nat) (Option.none : Option Jvm.ClassFile.FieldType)) ∈ lw_all := lw_g (lw_at lw_m3 84 rfl) rfl
theorem q658 : (Jvm.Cond.fieldLinkNest "Samovar$Woodpile" (23 : Nat) "Samovar" "FUEL" "[LSamovar$Fuel;" "Samovar") ∈ lw_tbl := lw_at lw_m3 85 rfl
theorem q659 : (Jvm.Cond.laysStatic "Samovar" "FUEL" "[LSamovar$Fuel;") ∈ lw_tbl := lw_at lw_m3 86 rfl
theorem q660 : (Jvm.Cond.stringRef "Samovar$Woodpile" (29 : Nat) "kbc") ∈ lw_tbl := lw_at lw_m3 87 rfl
theorem q661 : (Jvm.Cond.methodLink "Samovar$Woodpile" (31 : Nat) ({ cls := "Samovar$Woodpile", name := "passes", desc := "(Ljava/lang/String;)I" } : Jvm.MethodName)) ∈ lw_all := lw_g (lw_at lw_m3 88 rfl) rfl
theorem q662 : (Jvm.Cond.sameMethod "Samovar$Woodpile" "Samovar$Text" "passes" "(Ljava/lang/String;)I") ∈ lw_all := lw_g (lw_at lw_m3 89 rfl) rfl
theorem q663 : (Jvm.Cond.selects "Samovar$Woodpile" ({ cls := "Samovar$Woodpile", name := "passes", desc := "(Ljava/lang/String;)I" } : Jvm.MethodName) ({ cls := "Samovar$Text", name := "passes", desc := "(Ljava/lang/String;)I" } : Jvm.MethodName)) ∈ lw_all := lw_g (lw_at lw_m3 90 rfl) rfl
theorem q664 : (Jvm.Cond.classLink "Samovar$Woodpile" (35 : Nat) "Samovar$Piece") ∈ lw_all := lw_g (lw_at lw_m3 91 rfl) rfl
theorem q665 : (Jvm.Cond.instantiable "Samovar$Piece" (3 : Nat)) ∈ lw_all := lw_g (lw_at lw_m3 92 rfl) rfl
theorem q666 : (Jvm.Cond.stringRef "Samovar$Woodpile" (37 : Nat) "123") ∈ lw_tbl := lw_at lw_m3 93 rfl
theorem q667 : (Jvm.Cond.methodLink "Samovar$Woodpile" (39 : Nat) ({ cls := "Samovar$Piece", name := "<init>", desc := "(ILSamovar$Fuel;I)V" } : Jvm.MethodName)) ∈ lw_all := lw_g (lw_at lw_m3 94 rfl) rfl
theorem q668 : (Jvm.Cond.instanceMethod ({ cls := "Samovar$Piece", name := "<init>", desc := "(ILSamovar$Fuel;I)V" } : Jvm.MethodName)) ∈ lw_all := lw_g (lw_at lw_m3 95 rfl) rfl
theorem q669 : (Jvm.Cond.code ({ cls := "Samovar$Piece", name := "<init>", desc := "(ILSamovar$Fuel;I)V" } : Jvm.MethodName) prog_8_method_1_code (4 : Nat) (Option.none : Option Jvm.ClassFile.FieldType)) ∈ lw_all := lw_g (lw_at lw_m3 96 rfl) rfl
theorem q670 : (Jvm.Cond.methodLink "Samovar$Piece" (1 : Nat) ({ cls := "java/lang/Object", name := "<init>", desc := "()V" } : Jvm.MethodName)) ∈ lw_all := lw_g (lw_at lw_m3 97 rfl) rfl
theorem q671 : (Jvm.Cond.fieldLink "Samovar$Piece" (7 : Nat) "Samovar$Piece" "minute" "I") ∈ lw_all := lw_g (lw_at lw_m3 98 rfl) rfl
theorem q672 : (Jvm.Cond.fieldLink "Samovar$Piece" (13 : Nat) "Samovar$Piece" "fuel" "LSamovar$Fuel;") ∈ lw_all := lw_g (lw_at lw_m3 99 rfl) rfl
theorem q673 : (Jvm.Cond.fieldLinkNest "Samovar" (313 : Nat) "Samovar$Piece" "fuel" "LSamovar$Fuel;" "Samovar") ∈ lw_tbl := lw_at lw_m3 100 rfl
theorem q674 : (Jvm.Cond.fieldLink "Samovar$Piece" (17 : Nat) "Samovar$Piece" "many" "I") ∈ lw_all := lw_g (lw_at lw_m3 101 rfl) rfl
theorem q675 : (Jvm.Cond.laysFinal "Samovar$Piece" "Samovar$Piece" "minute" "I") ∈ lw_all := lw_g (lw_at lw_m3 102 rfl) rfl
theorem q676 : (Jvm.Cond.soleField "Samovar$Piece" "minute") ∈ lw_all := lw_g (lw_at lw_m3 103 rfl) rfl
theorem q677 : (Jvm.Cond.lays "Samovar$Piece" "Samovar$Piece" "fuel" "LSamovar$Fuel;") ∈ lw_all := lw_g (lw_at lw_m3 104 rfl) rfl
theorem q678 : (Jvm.Cond.soleField "Samovar$Piece" "fuel") ∈ lw_all := lw_g (lw_at lw_m3 105 rfl) rfl
theorem q679 : (Jvm.Cond.laysFinal "Samovar$Piece" "Samovar$Piece" "many" "I") ∈ lw_all := lw_g (lw_at lw_m3 106 rfl) rfl
theorem q680 : (Jvm.Cond.soleField "Samovar$Piece" "many") ∈ lw_all := lw_g (lw_at lw_m3 107 rfl) rfl
theorem q681 : (Jvm.Cond.superclass "Samovar$Piece" "java/lang/Object") ∈ lw_all := lw_g (lw_at lw_m3 108 rfl) rfl
theorem q682 : (Jvm.Cond.methodLink "Samovar$Woodpile" (42 : Nat) ({ cls := "java/util/ArrayList", name := "add", desc := "(Ljava/lang/Object;)Z" } : Jvm.MethodName)) ∈ lw_all := lw_g (lw_at lw_m3 109 rfl) rfl
theorem q683 : (Jvm.Cond.stringRef "Samovar$Text" (56 : Nat) ";") ∈ lw_tbl := lw_at lw_m3 110 rfl
theorem q684 : (Jvm.Cond.methodLink "SamovarLaw" (31 : Nat) ({ cls := "Samovar", name := "piece", desc := "(II)I" } : Jvm.MethodName)) ∈ lw_all := lw_g (lw_at lw_m3 111 rfl) rfl
theorem q685 : (Jvm.Cond.instanceMethod ({ cls := "Samovar", name := "piece", desc := "(II)I" } : Jvm.MethodName)) ∈ lw_all := lw_g (lw_at lw_m3 112 rfl) rfl
theorem q686 : (Jvm.Cond.selects "Samovar" ({ cls := "Samovar", name := "piece", desc := "(II)I" } : Jvm.MethodName) ({ cls := "Samovar", name := "piece", desc := "(II)I" } : Jvm.MethodName)) ∈ lw_all := lw_g (lw_at lw_m3 113 rfl) rfl
theorem q687 : (Jvm.Cond.code ({ cls := "Samovar", name := "piece", desc := "(II)I" } : Jvm.MethodName) prog_1_method_17_code (3 : Nat) (Option.some Jvm.ClassFile.FieldType.int)) ∈ lw_all := lw_g (lw_at lw_m3 114 rfl) rfl
theorem q688 : (Jvm.Cond.methodLink "Samovar" (133 : Nat) ({ cls := "Samovar", name := "isPiece", desc := "(I)Z" } : Jvm.MethodName)) ∈ lw_all := lw_g (lw_at lw_m3 115 rfl) rfl
theorem q689 : (Jvm.Cond.privateMethod ({ cls := "Samovar", name := "isPiece", desc := "(I)Z" } : Jvm.MethodName)) ∈ lw_tbl := lw_at lw_m3 116 rfl
theorem q690 : (Jvm.Cond.instanceMethod ({ cls := "Samovar", name := "isPiece", desc := "(I)Z" } : Jvm.MethodName)) ∈ lw_all := lw_g (lw_at lw_m3 117 rfl) rfl
theorem q691 : (Jvm.Cond.code ({ cls := "Samovar", name := "isPiece", desc := "(I)Z" } : Jvm.MethodName) prog_1_method_15_code (2 : Nat) (Option.some Jvm.ClassFile.FieldType.boolean)) ∈ lw_all := lw_g (lw_at lw_m3 118 rfl) rfl
theorem q692 : (Jvm.Cond.methodLink "Samovar" (127 : Nat) ({ cls := "Samovar", name := "pieces", desc := "()I" } : Jvm.MethodName)) ∈ lw_all := lw_g (lw_at lw_m3 119 rfl) rfl
theorem q693 : (Jvm.Cond.privateMethod ({ cls := "Samovar", name := "pieces", desc := "()I" } : Jvm.MethodName)) ∈ lw_tbl := lw_at lw_m3 120 rfl
theorem q694 : (Jvm.Cond.instanceMethod ({ cls := "Samovar", name := "pieces", desc := "()I" } : Jvm.MethodName)) ∈ lw_all := lw_g (lw_at lw_m3 121 rfl) rfl
theorem q695 : (Jvm.Cond.code ({ cls := "Samovar", name := "pieces", desc := "()I" } : Jvm.MethodName) prog_1_method_13_code (1 : Nat) (Option.some Jvm.ClassFile.FieldType.int)) ∈ lw_all := lw_g (lw_at lw_m3 122 rfl) rfl
theorem q696 : (Jvm.Cond.methodLink "Samovar" (121 : Nat) ({ cls := "Samovar$Woodpile", name := "read", desc := "()I" } : Jvm.MethodName)) ∈ lw_all := lw_g (lw_at lw_m3 123 rfl) rfl
theorem q697 : (Jvm.Cond.sameMethod "Samovar$Woodpile" "Samovar$Text" "read" "()I") ∈ lw_all := lw_g (lw_at lw_m3 124 rfl) rfl
theorem q698 : (Jvm.Cond.declares ({ cls := "Samovar$Text", name := "read", desc := "()I" } : Jvm.MethodName)) ∈ lw_tbl := lw_at lw_m3 125 rfl
theorem q699 : (Jvm.Cond.selects "Samovar$Woodpile" ({ cls := "Samovar$Woodpile", name := "read", desc := "()I" } : Jvm.MethodName) ({ cls := "Samovar$Text", name := "read", desc := "()I" } : Jvm.MethodName)) ∈ lw_all := lw_g (lw_at lw_m3 126 rfl) rfl
theorem q700 : (Jvm.Cond.methodLink "Samovar" (123 : Nat) ({ cls := "java/util/ArrayList", name := "size", desc := "()I" } : Jvm.MethodName)) ∈ lw_all := lw_g (lw_at lw_m3 127 rfl) rfl
theorem q701 : (Jvm.Cond.constantLong "Samovar" (136 : Nat) (2 : Int64)) ∈ lw_all := lw_g (lw_at lw_m3 128 rfl) rfl
theorem q702 : (Jvm.Cond.methodLink "Samovar" (138 : Nat) ({ cls := "java/util/ArrayList", name := "get", desc := "(I)Ljava/lang/Object;" } : Jvm.MethodName)) ∈ lw_all := lw_g (lw_at lw_m3 129 rfl) rfl
theorem q703 : (Jvm.Cond.instanceMethod ({ cls := "java/util/ArrayList", name := "get", desc := "(I)Ljava/lang/Object;" } : Jvm.MethodName)) ∈ lw_all := lw_g (lw_at lw_m3 130 rfl) rfl
theorem q704 : (Jvm.Cond.selects "java/util/ArrayList" ({ cls := "java/util/ArrayList", name := "get", desc := "(I)Ljava/lang/Object;" } : Jvm.MethodName) ({ cls := "java/util/ArrayList", name := "get", desc := "(I)Ljava/lang/Object;" } : Jvm.MethodName)) ∈ lw_all := lw_g (lw_at lw_m3 131 rfl) rfl
theorem q705 : (Jvm.Cond.code ({ cls := "java/util/ArrayList", name := "get", desc := "(I)Ljava/lang/Object;" } : Jvm.MethodName) prog_38_method_20_code (2 : Nat) (Option.some (Jvm.ClassFile.FieldType.object "java/lang/Object"))) ∈ lw_all := lw_g (lw_at lw_m3 132 rfl) rfl
theorem q706 : (Jvm.Cond.methodLink "java/util/ArrayList" (118 : Nat) ({ cls := "java/util/Objects", name := "checkIndex", desc := "(II)I" } : Jvm.MethodName)) ∈ lw_all := lw_g (lw_at lw_m3 133 rfl) rfl
theorem q707 : (Jvm.Cond.static ({ cls := "java/util/Objects", name := "checkIndex", desc := "(II)I" } : Jvm.MethodName)) ∈ lw_all := lw_g (lw_at lw_m3 134 rfl) rfl
theorem q708 : (Jvm.Cond.code ({ cls := "java/util/Objects", name := "checkIndex", desc := "(II)I" } : Jvm.MethodName) prog_42_method_17_code (2 : Nat) (Option.some Jvm.ClassFile.FieldType.int)) ∈ lw_all := lw_g (lw_at lw_m3 135 rfl) rfl
theorem q709 : (Jvm.Cond.methodLink "java/util/Objects" (105 : Nat) ({ cls := "jdk/internal/util/Preconditions", name := "checkIndex", desc := "(IILjava/util/function/BiFunction;)I" } : Jvm.MethodName)) ∈ lw_all := lw_g (lw_at lw_m3 136 rfl) rfl
theorem q710 : (Jvm.Cond.static ({ cls := "jdk/internal/util/Preconditions", name := "checkIndex", desc := "(IILjava/util/function/BiFunction;)I" } : Jvm.MethodName)) ∈ lw_all := lw_g (lw_at lw_m3 137 rfl) rfl
theorem q711 : (Jvm.Cond.code ({ cls := "jdk/internal/util/Preconditions", name := "checkIndex", desc := "(IILjava/util/function/BiFunction;)I" } : Jvm.MethodName) prog_46_method_11_code (3 : Nat) (Option.some Jvm.ClassFile.FieldType.int)) ∈ lw_all := lw_g (lw_at lw_m3 138 rfl) rfl
theorem q712 : (Jvm.Cond.methodLink "java/util/ArrayList" (123 : Nat) ({ cls := "java/util/ArrayList", name := "elementData", desc := "(I)Ljava/lang/Object;" } : Jvm.MethodName)) ∈ lw_all := lw_g (lw_at lw_m3 139 rfl) rfl
theorem q713 : (Jvm.Cond.instanceMethod ({ cls := "java/util/ArrayList", name := "elementData", desc := "(I)Ljava/lang/Object;" } : Jvm.MethodName)) ∈ lw_all := lw_g (lw_at lw_m3 140 rfl) rfl
theorem q714 : (Jvm.Cond.selects "java/util/ArrayList" ({ cls := "java/util/ArrayList", name := "elementData", desc := "(I)Ljava/lang/Object;" } : Jvm.MethodName) ({ cls := "java/util/ArrayList", name := "elementData", desc := "(I)Ljava/lang/Object;" } : Jvm.MethodName)) ∈ lw_all := lw_g (lw_at lw_m3 141 rfl) rfl
theorem q715 : (Jvm.Cond.code ({ cls := "java/util/ArrayList", name := "elementData", desc := "(I)Ljava/lang/Object;" } : Jvm.MethodName) prog_38_method_18_code (2 : Nat) (Option.some (Jvm.ClassFile.FieldType.object "java/lang/Object"))) ∈ lw_all := lw_g (lw_at lw_m3 142 rfl) rfl
theorem q716 : (Jvm.Cond.classLink "Samovar" (142 : Nat) "Samovar$Piece") ∈ lw_all := lw_g (lw_at lw_m3 143 rfl) rfl
theorem q717 : (Jvm.Cond.methodLink "Samovar" (144 : Nat) ({ cls := "Samovar$Piece", name := "by", desc := "(I)I" } : Jvm.MethodName)) ∈ lw_all := lw_g (lw_at lw_m3 144 rfl) rfl
theorem q718 : (Jvm.Cond.instanceMethod ({ cls := "Samovar$Piece", name := "by", desc := "(I)I" } : Jvm.MethodName)) ∈ lw_all := lw_g (lw_at lw_m3 145 rfl) rfl
theorem q719 : (Jvm.Cond.selects "Samovar$Piece" ({ cls := "Samovar$Piece", name := "by", desc := "(I)I" } : Jvm.MethodName) ({ cls := "Samovar$Piece", name := "by", desc := "(I)I" } : Jvm.MethodName)) ∈ lw_all := lw_g (lw_at lw_m3 146 rfl) rfl
theorem q720 : (Jvm.Cond.code ({ cls := "Samovar$Piece", name := "by", desc := "(I)I" } : Jvm.MethodName) prog_8_method_2_code (2 : Nat) (Option.some Jvm.ClassFile.FieldType.int)) ∈ lw_all := lw_g (lw_at lw_m3 147 rfl) rfl
theorem q721 : (Jvm.Cond.methodLink "Samovar$Piece" (20 : Nat) ({ cls := "Samovar$Fuel", name := "number", desc := "()I" } : Jvm.MethodName)) ∈ lw_all := lw_g (lw_at lw_m3 148 rfl) rfl
theorem q722 : (Jvm.Cond.instanceMethod ({ cls := "Samovar$Fuel", name := "number", desc := "()I" } : Jvm.MethodName)) ∈ lw_all := lw_g (lw_at lw_m3 149 rfl) rfl
theorem q723 : (Jvm.Cond.selects "Samovar$Fuel" ({ cls := "Samovar$Fuel", name := "number", desc := "()I" } : Jvm.MethodName) ({ cls := "Samovar$Fuel", name := "number", desc := "()I" } : Jvm.MethodName)) ∈ lw_all := lw_g (lw_at lw_m3 150 rfl) rfl
theorem q724 : (Jvm.Cond.sameMethod "Samovar$Fuel" "Samovar$Fuel" "number" "()I") ∈ lw_all := lw_g (lw_at lw_m3 151 rfl) rfl
theorem q725 : (Jvm.Cond.selects "Samovar$Birch" ({ cls := "Samovar$Fuel", name := "number", desc := "()I" } : Jvm.MethodName) ({ cls := "Samovar$Birch", name := "number", desc := "()I" } : Jvm.MethodName)) ∈ lw_all := lw_g (lw_at lw_m3 152 rfl) rfl
theorem q726 : (Jvm.Cond.instanceMethod ({ cls := "Samovar$Birch", name := "number", desc := "()I" } : Jvm.MethodName)) ∈ lw_all := lw_g (lw_at lw_m3 153 rfl) rfl
theorem q727 : (Jvm.Cond.code ({ cls := "Samovar$Birch", name := "number", desc := "()I" } : Jvm.MethodName) prog_2_method_2_code (1 : Nat) (Option.some Jvm.ClassFile.FieldType.int)) ∈ lw_all := lw_g (lw_at lw_m3 154 rfl) rfl
theorem q728 : (Jvm.Cond.methodLink "Samovar$Birch" (7 : Nat) ({ cls := "Samovar$Fuel", name := "number", desc := "()I" } : Jvm.MethodName)) ∈ lw_all := lw_g (lw_at lw_m3 155 rfl) rfl
theorem q729 : (Jvm.Cond.superclass "Samovar$Birch" "Samovar$Fuel") ∈ lw_all := lw_g (lw_at lw_m3 156 rfl) rfl
theorem q730 : (Jvm.Cond.code ({ cls := "Samovar$Fuel", name := "number", desc := "()I" } : Jvm.MethodName) prog_6_method_2_code (1 : Nat) (Option.some Jvm.ClassFile.FieldType.int)) ∈ lw_all := lw_g (lw_at lw_m3 157 rfl) rfl
theorem q731 : (Jvm.Cond.selects "Samovar$Charcoal" ({ cls := "Samovar$Fuel", name := "number", desc := "()I" } : Jvm.MethodName) ({ cls := "Samovar$Charcoal", name := "number", desc := "()I" } : Jvm.MethodName)) ∈ lw_all := lw_g (lw_at lw_m3 158 rfl) rfl
theorem q732 : (Jvm.Cond.instanceMethod ({ cls := "Samovar$Charcoal", name := "number", desc := "()I" } : Jvm.MethodName)) ∈ lw_all := lw_g (lw_at lw_m3 159 rfl) rfl
theorem q733 : (Jvm.Cond.code ({ cls := "Samovar$Charcoal", name := "number", desc := "()I" } : Jvm.MethodName) prog_3_method_2_code (1 : Nat) (Option.some Jvm.ClassFile.FieldType.int)) ∈ lw_all := lw_g (lw_at lw_m3 160 rfl) rfl
theorem q734 : (Jvm.Cond.methodLink "Samovar$Charcoal" (7 : Nat) ({ cls := "Samovar$Birch", name := "number", desc := "()I" } : Jvm.MethodName)) ∈ lw_all := lw_g (lw_at lw_m3 161 rfl) rfl
theorem q735 : (Jvm.Cond.superclass "Samovar$Charcoal" "Samovar$Birch") ∈ lw_all := lw_g (lw_at lw_m3 162 rfl) rfl
theorem q736 : (Jvm.Cond.methodLink "SamovarLaw" (35 : Nat) ({ cls := "Samovar", name := "guest", desc := "(II)I" } : Jvm.MethodName)) ∈ lw_all := lw_g (lw_at lw_m3 163 rfl) rfl
theorem q737 : (Jvm.Cond.instanceMethod ({ cls := "Samovar", name := "guest", desc := "(II)I" } : Jvm.MethodName)) ∈ lw_all := lw_g (lw_at lw_m3 164 rfl) rfl
theorem q738 : (Jvm.Cond.selects "Samovar" ({ cls := "Samovar", name := "guest", desc := "(II)I" } : Jvm.MethodName) ({ cls := "Samovar", name := "guest", desc := "(II)I" } : Jvm.MethodName)) ∈ lw_all := lw_g (lw_at lw_m3 165 rfl) rfl
theorem q739 : (Jvm.Cond.code ({ cls := "Samovar", name := "guest", desc := "(II)I" } : Jvm.MethodName) prog_1_method_18_code (3 : Nat) (Option.some Jvm.ClassFile.FieldType.int)) ∈ lw_all := lw_g (lw_at lw_m3 166 rfl) rfl
theorem q740 : (Jvm.Cond.methodLink "Samovar" (147 : Nat) ({ cls := "Samovar", name := "isGuest", desc := "(I)Z" } : Jvm.MethodName)) ∈ lw_all := lw_g (lw_at lw_m3 167 rfl) rfl
theorem q741 : (Jvm.Cond.privateMethod ({ cls := "Samovar", name := "isGuest", desc := "(I)Z" } : Jvm.MethodName)) ∈ lw_tbl := lw_at lw_m3 168 rfl
theorem q742 : (Jvm.Cond.instanceMethod ({ cls := "Samovar", name := "isGuest", desc := "(I)Z" } : Jvm.MethodName)) ∈ lw_all := lw_g (lw_at lw_m3 169 rfl) rfl
theorem q743 : (Jvm.Cond.code ({ cls := "Samovar", name := "isGuest", desc := "(I)Z" } : Jvm.MethodName) prog_1_method_16_code (2 : Nat) (Option.some Jvm.ClassFile.FieldType.boolean)) ∈ lw_all := lw_g (lw_at lw_m3 170 rfl) rfl
theorem q744 : (Jvm.Cond.methodLink "Samovar" (130 : Nat) ({ cls := "Samovar", name := "people", desc := "()I" } : Jvm.MethodName)) ∈ lw_all := lw_g (lw_at lw_m3 171 rfl) rfl
theorem q745 : (Jvm.Cond.privateMethod ({ cls := "Samovar", name := "people", desc := "()I" } : Jvm.MethodName)) ∈ lw_tbl := lw_at lw_m3 172 rfl
theorem q746 : (Jvm.Cond.instanceMethod ({ cls := "Samovar", name := "people", desc := "()I" } : Jvm.MethodName)) ∈ lw_all := lw_g (lw_at lw_m3 173 rfl) rfl
theorem q747 : (Jvm.Cond.code ({ cls := "Samovar", name := "people", desc := "()I" } : Jvm.MethodName) prog_1_method_14_code (1 : Nat) (Option.some Jvm.ClassFile.FieldType.int)) ∈ lw_all := lw_g (lw_at lw_m3 174 rfl) rfl
theorem q748 : (Jvm.Cond.methodLink "Samovar" (126 : Nat) ({ cls := "Samovar$Company", name := "read", desc := "()I" } : Jvm.MethodName)) ∈ lw_all := lw_g (lw_at lw_m3 175 rfl) rfl
theorem q749 : (Jvm.Cond.sameMethod "Samovar$Company" "Samovar$Text" "read" "()I") ∈ lw_all := lw_g (lw_at lw_m3 176 rfl) rfl
theorem q750 : (Jvm.Cond.selects "Samovar$Company" ({ cls := "Samovar$Company", name := "read", desc := "()I" } : Jvm.MethodName) ({ cls := "Samovar$Text", name := "read", desc := "()I" } : Jvm.MethodName)) ∈ lw_all := lw_g (lw_at lw_m3 177 rfl) rfl
theorem q751 : (Jvm.Cond.methodLink "Samovar" (150 : Nat) ({ cls := "Samovar$Guest", name := "by", desc := "(I)I" } : Jvm.MethodName)) ∈ lw_all := lw_g (lw_at lw_m3 178 rfl) rfl
theorem q752 : (Jvm.Cond.instanceMethod ({ cls := "Samovar$Guest", name := "by", desc := "(I)I" } : Jvm.MethodName)) ∈ lw_all := lw_g (lw_at lw_m3 179 rfl) rfl
theorem q753 : (Jvm.Cond.selects "Samovar$Guest" ({ cls := "Samovar$Guest", name := "by", desc := "(I)I" } : Jvm.MethodName) ({ cls := "Samovar$Guest", name := "by", desc := "(I)I" } : Jvm.MethodName)) ∈ lw_all := lw_g (lw_at lw_m3 180 rfl) rfl
theorem q754 : (Jvm.Cond.code ({ cls := "Samovar$Guest", name := "by", desc := "(I)I" } : Jvm.MethodName) prog_7_method_2_code (2 : Nat) (Option.some Jvm.ClassFile.FieldType.int)) ∈ lw_all := lw_g (lw_at lw_m3 181 rfl) rfl
theorem q755 : (Jvm.Cond.methodLink "Samovar$Guest" (22 : Nat) ({ cls := "Samovar$Taste", name := "number", desc := "()I" } : Jvm.MethodName)) ∈ lw_all := lw_g (lw_at lw_m3 182 rfl) rfl
theorem q756 : (Jvm.Cond.instanceMethod ({ cls := "Samovar$Taste", name := "number", desc := "()I" } : Jvm.MethodName)) ∈ lw_all := lw_g (lw_at lw_m3 183 rfl) rfl
theorem q757 : (Jvm.Cond.selects "Samovar$Taste" ({ cls := "Samovar$Taste", name := "number", desc := "()I" } : Jvm.MethodName) ({ cls := "Samovar$Taste", name := "number", desc := "()I" } : Jvm.MethodName)) ∈ lw_all := lw_g (lw_at lw_m3 184 rfl) rfl
theorem q758 : (Jvm.Cond.sameMethod "Samovar$Taste" "Samovar$Taste" "number" "()I") ∈ lw_all := lw_g (lw_at lw_m3 185 rfl) rfl
theorem q759 : (Jvm.Cond.selects "Samovar$Dark" ({ cls := "Samovar$Taste", name := "number", desc := "()I" } : Jvm.MethodName) ({ cls := "Samovar$Dark", name := "number", desc := "()I" } : Jvm.MethodName)) ∈ lw_all := lw_g (lw_at lw_m3 186 rfl) rfl
theorem q760 : (Jvm.Cond.instanceMethod ({ cls := "Samovar$Dark", name := "number", desc := "()I" } : Jvm.MethodName)) ∈ lw_all := lw_g (lw_at lw_m3 187 rfl) rfl
theorem q761 : (Jvm.Cond.code ({ cls := "Samovar$Dark", name := "number", desc := "()I" } : Jvm.MethodName) prog_5_method_2_code (1 : Nat) (Option.some Jvm.ClassFile.FieldType.int)) ∈ lw_all := lw_g (lw_at lw_m3 188 rfl) rfl
theorem q762 : (Jvm.Cond.methodLink "Samovar$Dark" (7 : Nat) ({ cls := "Samovar$Taste", name := "number", desc := "()I" } : Jvm.MethodName)) ∈ lw_all := lw_g (lw_at lw_m3 189 rfl) rfl
theorem q763 : (Jvm.Cond.superclass "Samovar$Dark" "Samovar$Taste") ∈ lw_all := lw_g (lw_at lw_m3 190 rfl) rfl
theorem q764 : (Jvm.Cond.code ({ cls := "Samovar$Taste", name := "number", desc := "()I" } : Jvm.MethodName) prog_10_method_2_code (1 : Nat) (Option.some Jvm.ClassFile.FieldType.int)) ∈ lw_all := lw_g (lw_at lw_m3 191 rfl) rfl
theorem q765 : (Jvm.Cond.methodLink "SamovarLaw" (39 : Nat) ({ cls := "Samovar", name := "set", desc := "(II)I" } : Jvm.MethodName)) ∈ lw_all := lw_g (lw_at lw_m3 192 rfl) rfl
theorem q766 : (Jvm.Cond.instanceMethod ({ cls := "Samovar", name := "set", desc := "(II)I" } : Jvm.MethodName)) ∈ lw_all := lw_g (lw_at lw_m3 193 rfl) rfl
theorem q767 : (Jvm.Cond.selects "Samovar" ({ cls := "Samovar", name := "set", desc := "(II)I" } : Jvm.MethodName) ({ cls := "Samovar", name := "set", desc := "(II)I" } : Jvm.MethodName)) ∈ lw_all := lw_g (lw_at lw_m3 194 rfl) rfl
theorem q768 : (Jvm.Cond.code ({ cls := "Samovar", name := "set", desc := "(II)I" } : Jvm.MethodName) prog_1_method_19_code (4 : Nat) (Option.some Jvm.ClassFile.FieldType.int)) ∈ lw_all := lw_g (lw_at lw_m3 195 rfl) rfl
theorem q769 : (Jvm.Cond.constantLong "Samovar" (151 : Nat) (30 : Int64)) ∈ lw_all := lw_g (lw_at lw_m3 196 rfl) rfl
theorem q770 : (Jvm.Cond.constantLong "Samovar" (153 : Nat) (40 : Int64)) ∈ lw_all := lw_g (lw_at lw_m3 197 rfl) rfl
theorem q771 : (Jvm.Cond.methodLink "SamovarLaw" (43 : Nat) ({ cls := "Samovar", name := "event", desc := "(III)I" } : Jvm.MethodName)) ∈ lw_all := lw_g (lw_at lw_m3 198 rfl) rfl
theorem q772 : (Jvm.Cond.instanceMethod ({ cls := "Samovar", name := "event", desc := "(III)I" } : Jvm.MethodName)) ∈ lw_all := lw_g (lw_at lw_m3 199 rfl) rfl
theorem q773 : (Jvm.Cond.selects "Samovar" ({ cls := "Samovar", name := "event", desc := "(III)I" } : Jvm.MethodName) ({ cls := "Samovar", name := "event", desc := "(III)I" } : Jvm.MethodName)) ∈ lw_all := lw_g (lw_at lw_m3 200 rfl) rfl
theorem q774 : (Jvm.Cond.code ({ cls := "Samovar", name := "event", desc := "(III)I" } : Jvm.MethodName) prog_1_method_20_code (4 : Nat) (Option.some Jvm.ClassFile.FieldType.int)) ∈ lw_all := lw_g (lw_at lw_m3 201 rfl) rfl
theorem q775 : (Jvm.Cond.methodLink "Samovar" (155 : Nat) ({ cls := "Samovar", name := "isMinute", desc := "(I)Z" } : Jvm.MethodName)) ∈ lw_all := lw_g (lw_at lw_m3 202 rfl) rfl
theorem q776 : (Jvm.Cond.static ({ cls := "Samovar", name := "isMinute", desc := "(I)Z" } : Jvm.MethodName)) ∈ lw_all := lw_g (lw_at lw_m3 203 rfl) rfl
theorem q777 : (Jvm.Cond.code ({ cls := "Samovar", name := "isMinute", desc := "(I)Z" } : Jvm.MethodName) prog_1_method_8_code (1 : Nat) (Option.some Jvm.ClassFile.FieldType.boolean)) ∈ lw_all := lw_g (lw_at lw_m3 204 rfl) rfl
theorem q778 : (Jvm.Cond.constantLong "Samovar" (99 : Nat) (23 : Int64)) ∈ lw_all := lw_g (lw_at lw_m3 205 rfl) rfl
theorem q779 : (Jvm.Cond.constantLong "Samovar" (158 : Nat) (9 : Int64)) ∈ lw_all := lw_g (lw_at lw_m3 206 rfl) rfl
theorem q780 : (Jvm.Cond.methodLink "Samovar" (160 : Nat) ({ cls := "java/util/ArrayList", name := "add", desc := "(Ljava/lang/Object;)Z" } : Jvm.MethodName)) ∈ lw_all := lw_g (lw_at lw_m3 207 rfl) rfl
theorem q781 : (Jvm.Cond.methodLink "SamovarLaw" (48 : Nat) ({ cls := "Samovar", name := "back", desc := "()I" } : Jvm.MethodName)) ∈ lw_all := lw_g (lw_at lw_m3 208 rfl) rfl
theorem q782 : (Jvm.Cond.instanceMethod ({ cls := "Samovar", name := "back", desc := "()I" } : Jvm.MethodName)) ∈ lw_all := lw_g (lw_at lw_m3 209 rfl) rfl
theorem q783 : (Jvm.Cond.selects "Samovar" ({ cls := "Samovar", name := "back", desc := "()I" } : Jvm.MethodName) ({ cls := "Samovar", name := "back", desc := "()I" } : Jvm.MethodName)) ∈ lw_all := lw_g (lw_at lw_m3 210 rfl) rfl
theorem q784 : (Jvm.Cond.code ({ cls := "Samovar", name := "back", desc := "()I" } : Jvm.MethodName) prog_1_method_21_code (1 : Nat) (Option.some Jvm.ClassFile.FieldType.int)) ∈ lw_all := lw_g (lw_at lw_m3 211 rfl) rfl
theorem q785 : (Jvm.Cond.methodLink "Samovar" (164 : Nat) ({ cls := "java/util/ArrayList", name := "isEmpty", desc := "()Z" } : Jvm.MethodName)) ∈ lw_all := lw_g (lw_at lw_m3 212 rfl) rfl
theorem q786 : (Jvm.Cond.instanceMethod ({ cls := "java/util/ArrayList", name := "isEmpty", desc := "()Z" } : Jvm.MethodName)) ∈ lw_all := lw_g (lw_at lw_m3 213 rfl) rfl
theorem q787 : (Jvm.Cond.selects "java/util/ArrayList" ({ cls := "java/util/ArrayList", name := "isEmpty", desc := "()Z" } : Jvm.MethodName) ({ cls := "java/util/ArrayList", name := "isEmpty", desc := "()Z" } : Jvm.MethodName)) ∈ lw_all := lw_g (lw_at lw_m3 214 rfl) rfl
theorem q788 : (Jvm.Cond.code ({ cls := "java/util/ArrayList", name := "isEmpty", desc := "()Z" } : Jvm.MethodName) prog_38_method_9_code (1 : Nat) (Option.some Jvm.ClassFile.FieldType.boolean)) ∈ lw_all := lw_g (lw_at lw_m3 215 rfl) rfl
theorem q789 : (Jvm.Cond.methodLink "Samovar" (168 : Nat) ({ cls := "java/util/ArrayList", name := "remove", desc := "(I)Ljava/lang/Object;" } : Jvm.MethodName)) ∈ lw_all := lw_g (lw_at lw_m3 216 rfl) rfl
theorem q790 : (Jvm.Cond.instanceMethod ({ cls := "java/util/ArrayList", name := "remove", desc := "(I)Ljava/lang/Object;" } : Jvm.MethodName)) ∈ lw_all := lw_g (lw_at lw_m3 217 rfl) rfl
theorem q791 : (Jvm.Cond.selects "java/util/ArrayList" ({ cls := "java/util/ArrayList", name := "remove", desc := "(I)Ljava/lang/Object;" } : Jvm.MethodName) ({ cls := "java/util/ArrayList", name := "remove", desc := "(I)Ljava/lang/Object;" } : Jvm.MethodName)) ∈ lw_all := lw_g (lw_at lw_m3 218 rfl) rfl
theorem q792 : (Jvm.Cond.code ({ cls := "java/util/ArrayList", name := "remove", desc := "(I)Ljava/lang/Object;" } : Jvm.MethodName) prog_38_method_29_code (4 : Nat) (Option.some (Jvm.ClassFile.FieldType.object "java/lang/Object"))) ∈ lw_all := lw_g (lw_at lw_m3 219 rfl) rfl
theorem q793 : (Jvm.Cond.methodLink "java/util/ArrayList" (144 : Nat) ({ cls := "java/util/ArrayList", name := "fastRemove", desc := "([Ljava/lang/Object;I)V" } : Jvm.MethodName)) ∈ lw_all := lw_g (lw_at lw_m3 220 rfl) rfl
theorem q794 : (Jvm.Cond.privateMethod ({ cls := "java/util/ArrayList", name := "fastRemove", desc := "([Ljava/lang/Object;I)V" } : Jvm.MethodName)) ∈ lw_tbl := lw_at lw_m3 221 rfl
theorem q795 : (Jvm.Cond.instanceMethod ({ cls := "java/util/ArrayList", name := "fastRemove", desc := "([Ljava/lang/Object;I)V" } : Jvm.MethodName)) ∈ lw_all := lw_g (lw_at lw_m3 222 rfl) rfl
theorem q796 : (Jvm.Cond.code ({ cls := "java/util/ArrayList", name := "fastRemove", desc := "([Ljava/lang/Object;I)V" } : Jvm.MethodName) prog_38_method_39_code (4 : Nat) (Option.none : Option Jvm.ClassFile.FieldType)) ∈ lw_all := lw_g (lw_at lw_m3 223 rfl) rfl
theorem q797 : (Jvm.Cond.methodLink "java/util/ArrayList" (112 : Nat) ({ cls := "java/lang/System", name := "arraycopy", desc := "(Ljava/lang/Object;ILjava/lang/Object;II)V" } : Jvm.MethodName)) ∈ lw_all := lw_g (lw_at lw_m3 224 rfl) rfl
theorem q798 : (Jvm.Cond.methodLink "SamovarLaw" (53 : Nat) ({ cls := "Samovar", name := "read", desc := "(I)I" } : Jvm.MethodName)) ∈ lw_all := lw_g (lw_at lw_m3 225 rfl) rfl
theorem q799 : (Jvm.Cond.instanceMethod ({ cls := "Samovar", name := "read", desc := "(I)I" } : Jvm.MethodName)) ∈ lw_all := lw_g (lw_at lw_m3 226 rfl) rfl
theorem q800 : (Jvm.Cond.selects "Samovar" ({ cls := "Samovar", name := "read", desc := "(I)I" } : Jvm.MethodName) ({ cls := "Samovar", name := "read", desc := "(I)I" } : Jvm.MethodName)) ∈ lw_all := lw_g (lw_at lw_m3 227 rfl) rfl
theorem q801 : (Jvm.Cond.code ({ cls := "Samovar", name := "read", desc := "(I)I" } : Jvm.MethodName) prog_1_method_22_code (4 : Nat) (Option.some Jvm.ClassFile.FieldType.int)) ∈ lw_all := lw_g (lw_at lw_m3 228 rfl) rfl
theorem q802 : (Jvm.Cond.methodLink "Samovar" (171 : Nat) ({ cls := "Samovar", name := "isSheet", desc := "(I)Z" } : Jvm.MethodName)) ∈ lw_all := lw_g (lw_at lw_m3 229 rfl) rfl
theorem q803 : (Jvm.Cond.static ({ cls := "Samovar", name := "isSheet", desc := "(I)Z" } : Jvm.MethodName)) ∈ lw_all := lw_g (lw_at lw_m3 230 rfl) rfl
theorem q804 : (Jvm.Cond.code ({ cls := "Samovar", name := "isSheet", desc := "(I)Z" } : Jvm.MethodName) prog_1_method_73_code (1 : Nat) (Option.some Jvm.ClassFile.FieldType.boolean)) ∈ lw_all := lw_g (lw_at lw_m3 231 rfl) rfl
theorem q805 : (Jvm.Cond.constantLong "Samovar" (403 : Nat) (3 : Int64)) ∈ lw_all := lw_g (lw_at lw_m3 232 rfl) rfl
theorem q806 : (Jvm.Cond.methodLink "Samovar" (178 : Nat) ({ cls := "Samovar", name := "met", desc := "(I)I" } : Jvm.MethodName)) ∈ lw_all := lw_g (lw_at lw_m3 233 rfl) rfl
theorem q807 : (Jvm.Cond.privateMethod ({ cls := "Samovar", name := "met", desc := "(I)I" } : Jvm.MethodName)) ∈ lw_tbl := lw_at lw_m3 234 rfl
theorem q808 : (Jvm.Cond.instanceMethod ({ cls := "Samovar", name := "met", desc := "(I)I" } : Jvm.MethodName)) ∈ lw_all := lw_g (lw_at lw_m3 235 rfl) rfl
theorem q809 : (Jvm.Cond.code ({ cls := "Samovar", name := "met", desc := "(I)I" } : Jvm.MethodName) prog_1_method_4_code (2 : Nat) (Option.some Jvm.ClassFile.FieldType.int)) ∈ lw_all := lw_g (lw_at lw_m3 236 rfl) rfl
theorem q810 : (Jvm.Cond.methodLink "Samovar" (181 : Nat) ({ cls := "Samovar$Sheet", name := "size", desc := "()I" } : Jvm.MethodName)) ∈ lw_all := lw_g (lw_at lw_m3 237 rfl) rfl
theorem q811 : (Jvm.Cond.instanceMethod ({ cls := "Samovar$Sheet", name := "size", desc := "()I" } : Jvm.MethodName)) ∈ lw_all := lw_g (lw_at lw_m3 238 rfl) rfl
theorem q812 : (Jvm.Cond.selects "Samovar$Sheet" ({ cls := "Samovar$Sheet", name := "size", desc := "()I" } : Jvm.MethodName) ({ cls := "Samovar$Sheet", name := "size", desc := "()I" } : Jvm.MethodName)) ∈ lw_all := lw_g (lw_at lw_m3 239 rfl) rfl
theorem q813 : (Jvm.Cond.code ({ cls := "Samovar$Sheet", name := "size", desc := "()I" } : Jvm.MethodName) prog_9_method_3_code (1 : Nat) (Option.some Jvm.ClassFile.FieldType.int)) ∈ lw_all := lw_g (lw_at lw_m4 0 rfl) rfl
theorem q814 : (Jvm.Cond.methodLink "Samovar$Sheet" (17 : Nat) ({ cls := "Samovar$Sheet", name := "type", desc := "()I" } : Jvm.MethodName)) ∈ lw_all := lw_g (lw_at lw_m4 1 rfl) rfl
theorem q815 : (Jvm.Cond.instanceMethod ({ cls := "Samovar$Sheet", name := "type", desc := "()I" } : Jvm.MethodName)) ∈ lw_all := lw_g (lw_at lw_m4 2 rfl) rfl
theorem q816 : (Jvm.Cond.selects "Samovar$Sheet" ({ cls := "Samovar$Sheet", name := "type", desc := "()I" } : Jvm.MethodName) ({ cls := "Samovar$Sheet", name := "type", desc := "()I" } : Jvm.MethodName)) ∈ lw_all := lw_g (lw_at lw_m4 3 rfl) rfl
theorem q817 : (Jvm.Cond.code ({ cls := "Samovar$Sheet", name := "type", desc := "()I" } : Jvm.MethodName) prog_9_method_2_code (1 : Nat) (Option.some Jvm.ClassFile.FieldType.int)) ∈ lw_all := lw_g (lw_at lw_m4 4 rfl) rfl
theorem q818 : (Jvm.Cond.classLink "Samovar$Sheet" (13 : Nat) "[B") ∈ lw_all := lw_g (lw_at lw_m4 5 rfl) rfl
theorem q819 : (Jvm.Cond.classLink "Samovar$Sheet" (15 : Nat) "[S") ∈ lw_all := lw_g (lw_at lw_m4 6 rfl) rfl
theorem q820 : (Jvm.Cond.classLink "Samovar$Sheet" (21 : Nat) "[I") ∈ lw_all := lw_g (lw_at lw_m4 7 rfl) rfl
theorem q821 : (Jvm.Cond.methodLink "Samovar" (182 : Nat) ({ cls := "Samovar$Sheet", name := "type", desc := "()I" } : Jvm.MethodName)) ∈ lw_all := lw_g (lw_at lw_m4 8 rfl) rfl
theorem q822 : (Jvm.Cond.methodLink "Samovar" (184 : Nat) ({ cls := "Samovar$Sheet", name := "item", desc := "(II)I" } : Jvm.MethodName)) ∈ lw_all := lw_g (lw_at lw_m4 9 rfl) rfl
theorem q823 : (Jvm.Cond.instanceMethod ({ cls := "Samovar$Sheet", name := "item", desc := "(II)I" } : Jvm.MethodName)) ∈ lw_all := lw_g (lw_at lw_m4 10 rfl) rfl
theorem q824 : (Jvm.Cond.selects "Samovar$Sheet" ({ cls := "Samovar$Sheet", name := "item", desc := "(II)I" } : Jvm.MethodName) ({ cls := "Samovar$Sheet", name := "item", desc := "(II)I" } : Jvm.MethodName)) ∈ lw_all := lw_g (lw_at lw_m4 11 rfl) rfl
theorem q825 : (Jvm.Cond.code ({ cls := "Samovar$Sheet", name := "item", desc := "(II)I" } : Jvm.MethodName) prog_9_method_4_code (3 : Nat) (Option.some Jvm.ClassFile.FieldType.int)) ∈ lw_all := lw_g (lw_at lw_m4 12 rfl) rfl
theorem q826 : (Jvm.Cond.methodLink "Samovar" (188 : Nat) ({ cls := "Samovar", name := "event", desc := "(III)I" } : Jvm.MethodName)) ∈ lw_all := lw_g (lw_at lw_m4 13 rfl) rfl
theorem q827 : (Jvm.Cond.methodLink "SamovarLaw" (57 : Nat) ({ cls := "Samovar", name := "at", desc := "(II)I" } : Jvm.MethodName)) ∈ lw_all := lw_g (lw_at lw_m4 14 rfl) rfl
theorem q828 : (Jvm.Cond.instanceMethod ({ cls := "Samovar", name := "at", desc := "(II)I" } : Jvm.MethodName)) ∈ lw_all := lw_g (lw_at lw_m4 15 rfl) rfl
theorem q829 : (Jvm.Cond.selects "Samovar" ({ cls := "Samovar", name := "at", desc := "(II)I" } : Jvm.MethodName) ({ cls := "Samovar", name := "at", desc := "(II)I" } : Jvm.MethodName)) ∈ lw_all := lw_g (lw_at lw_m4 16 rfl) rfl
theorem q830 : (Jvm.Cond.code ({ cls := "Samovar", name := "at", desc := "(II)I" } : Jvm.MethodName) prog_1_method_30_code (3 : Nat) (Option.some Jvm.ClassFile.FieldType.int)) ∈ lw_all := lw_g (lw_at lw_m4 17 rfl) rfl
theorem q831 : (Jvm.Cond.methodLink "Samovar" (285 : Nat) ({ cls := "Samovar", name := "find", desc := "()V" } : Jvm.MethodName)) ∈ lw_all := lw_g (lw_at lw_m4 18 rfl) rfl
theorem q832 : (Jvm.Cond.privateMethod ({ cls := "Samovar", name := "find", desc := "()V" } : Jvm.MethodName)) ∈ lw_tbl := lw_at lw_m4 19 rfl
theorem q833 : (Jvm.Cond.instanceMethod ({ cls := "Samovar", name := "find", desc := "()V" } : Jvm.MethodName)) ∈ lw_all := lw_g (lw_at lw_m4 20 rfl) rfl
theorem q834 : (Jvm.Cond.code ({ cls := "Samovar", name := "find", desc := "()V" } : Jvm.MethodName) prog_1_method_29_code (2 : Nat) (Option.none : Option Jvm.ClassFile.FieldType)) ∈ lw_all := lw_g (lw_at lw_m4 21 rfl) rfl
theorem q835 : (Jvm.Cond.methodLink "Samovar" (276 : Nat) ({ cls := "Samovar$Guest", name := "begins", desc := "()V" } : Jvm.MethodName)) ∈ lw_all := lw_g (lw_at lw_m4 22 rfl) rfl
theorem q836 : (Jvm.Cond.instanceMethod ({ cls := "Samovar$Guest", name := "begins", desc := "()V" } : Jvm.MethodName)) ∈ lw_all := lw_g (lw_at lw_m4 23 rfl) rfl
theorem q837 : (Jvm.Cond.selects "Samovar$Guest" ({ cls := "Samovar$Guest", name := "begins", desc := "()V" } : Jvm.MethodName) ({ cls := "Samovar$Guest", name := "begins", desc := "()V" } : Jvm.MethodName)) ∈ lw_all := lw_g (lw_at lw_m4 24 rfl) rfl
theorem q838 : (Jvm.Cond.code ({ cls := "Samovar$Guest", name := "begins", desc := "()V" } : Jvm.MethodName) prog_7_method_3_code (1 : Nat) (Option.none : Option Jvm.ClassFile.FieldType)) ∈ lw_all := lw_g (lw_at lw_m4 25 rfl) rfl
theorem q839 : (Jvm.Cond.methodLink "Samovar" (279 : Nat) ({ cls := "java/util/ArrayList", name := "clear", desc := "()V" } : Jvm.MethodName)) ∈ lw_all := lw_g (lw_at lw_m4 26 rfl) rfl
theorem q840 : (Jvm.Cond.methodLink "Samovar" (282 : Nat) ({ cls := "Samovar", name := "passes", desc := "(I)V" } : Jvm.MethodName)) ∈ lw_all := lw_g (lw_at lw_m4 27 rfl) rfl
theorem q841 : (Jvm.Cond.privateMethod ({ cls := "Samovar", name := "passes", desc := "(I)V" } : Jvm.MethodName)) ∈ lw_tbl := lw_at lw_m4 28 rfl
theorem q842 : (Jvm.Cond.instanceMethod ({ cls := "Samovar", name := "passes", desc := "(I)V" } : Jvm.MethodName)) ∈ lw_all := lw_g (lw_at lw_m4 29 rfl) rfl
theorem q843 : (Jvm.Cond.code ({ cls := "Samovar", name := "passes", desc := "(I)V" } : Jvm.MethodName) prog_1_method_28_code (6 : Nat) (Option.none : Option Jvm.ClassFile.FieldType)) ∈ lw_all := lw_g (lw_at lw_m4 30 rfl) rfl
theorem q844 : (Jvm.Cond.methodLink "Samovar" (253 : Nat) ({ cls := "Samovar", name := "happens", desc := "(I)V" } : Jvm.MethodName)) ∈ lw_all := lw_g (lw_at lw_m4 31 rfl) rfl
theorem q845 : (Jvm.Cond.privateMethod ({ cls := "Samovar", name := "happens", desc := "(I)V" } : Jvm.MethodName)) ∈ lw_tbl := lw_at lw_m4 32 rfl
theorem q846 : (Jvm.Cond.instanceMethod ({ cls := "Samovar", name := "happens", desc := "(I)V" } : Jvm.MethodName)) ∈ lw_all := lw_g (lw_at lw_m4 33 rfl) rfl
theorem q847 : (Jvm.Cond.code ({ cls := "Samovar", name := "happens", desc := "(I)V" } : Jvm.MethodName) prog_1_method_23_code (5 : Nat) (Option.none : Option Jvm.ClassFile.FieldType)) ∈ lw_all := lw_g (lw_at lw_m4 34 rfl) rfl
theorem q848 : (Jvm.Cond.classLink "Samovar" (196 : Nat) "[I") ∈ lw_all := lw_g (lw_at lw_m4 35 rfl) rfl
theorem q849 : (Jvm.Cond.methodLink "Samovar" (200 : Nat) ({ cls := "Samovar", name := "isIn", desc := "(II)Z" } : Jvm.MethodName)) ∈ lw_all := lw_g (lw_at lw_m4 36 rfl) rfl
theorem q850 : (Jvm.Cond.static ({ cls := "Samovar", name := "isIn", desc := "(II)Z" } : Jvm.MethodName)) ∈ lw_all := lw_g (lw_at lw_m4 37 rfl) rfl
theorem q851 : (Jvm.Cond.code ({ cls := "Samovar", name := "isIn", desc := "(II)Z" } : Jvm.MethodName) prog_1_method_7_code (2 : Nat) (Option.some Jvm.ClassFile.FieldType.boolean)) ∈ lw_all := lw_g (lw_at lw_m4 38 rfl) rfl
theorem q852 : (Jvm.Cond.methodLink "Samovar" (207 : Nat) ({ cls := "java/lang/Math", name := "min", desc := "(II)I" } : Jvm.MethodName)) ∈ lw_all := lw_g (lw_at lw_m4 39 rfl) rfl
theorem q853 : (Jvm.Cond.methodLink "Samovar" (215 : Nat) ({ cls := "java/lang/Math", name := "max", desc := "(II)I" } : Jvm.MethodName)) ∈ lw_all := lw_g (lw_at lw_m4 40 rfl) rfl
theorem q854 : (Jvm.Cond.methodLink "Samovar" (256 : Nat) ({ cls := "Samovar", name := "fire", desc := "(I)I" } : Jvm.MethodName)) ∈ lw_all := lw_g (lw_at lw_m4 41 rfl) rfl
theorem q855 : (Jvm.Cond.privateMethod ({ cls := "Samovar", name := "fire", desc := "(I)I" } : Jvm.MethodName)) ∈ lw_tbl := lw_at lw_m4 42 rfl
theorem q856 : (Jvm.Cond.instanceMethod ({ cls := "Samovar", name := "fire", desc := "(I)I" } : Jvm.MethodName)) ∈ lw_all := lw_g (lw_at lw_m4 43 rfl) rfl
theorem q857 : (Jvm.Cond.code ({ cls := "Samovar", name := "fire", desc := "(I)I" } : Jvm.MethodName) prog_1_method_24_code (4 : Nat) (Option.some Jvm.ClassFile.FieldType.int)) ∈ lw_all := lw_g (lw_at lw_m4 44 rfl) rfl
theorem q858 : (Jvm.Cond.methodLink "Samovar" (221 : Nat) ({ cls := "Samovar$Piece", name := "fire", desc := "(I)I" } : Jvm.MethodName)) ∈ lw_all := lw_g (lw_at lw_m4 45 rfl) rfl
theorem q859 : (Jvm.Cond.instanceMethod ({ cls := "Samovar$Piece", name := "fire", desc := "(I)I" } : Jvm.MethodName)) ∈ lw_all := lw_g (lw_at lw_m4 46 rfl) rfl
theorem q860 : (Jvm.Cond.selects "Samovar$Piece" ({ cls := "Samovar$Piece", name := "fire", desc := "(I)I" } : Jvm.MethodName) ({ cls := "Samovar$Piece", name := "fire", desc := "(I)I" } : Jvm.MethodName)) ∈ lw_all := lw_g (lw_at lw_m4 47 rfl) rfl
theorem q861 : (Jvm.Cond.code ({ cls := "Samovar$Piece", name := "fire", desc := "(I)I" } : Jvm.MethodName) prog_8_method_3_code (2 : Nat) (Option.some Jvm.ClassFile.FieldType.int)) ∈ lw_all := lw_g (lw_at lw_m4 48 rfl) rfl
theorem q862 : (Jvm.Cond.methodLink "Samovar$Piece" (26 : Nat) ({ cls := "Samovar$Fuel", name := "lasts", desc := "()I" } : Jvm.MethodName)) ∈ lw_all := lw_g (lw_at lw_m4 49 rfl) rfl
theorem q863 : (Jvm.Cond.instanceMethod ({ cls := "Samovar$Fuel", name := "lasts", desc := "()I" } : Jvm.MethodName)) ∈ lw_all := lw_g (lw_at lw_m4 50 rfl) rfl
theorem q864 : (Jvm.Cond.selects "Samovar$Fuel" ({ cls := "Samovar$Fuel", name := "lasts", desc := "()I" } : Jvm.MethodName) ({ cls := "Samovar$Fuel", name := "lasts", desc := "()I" } : Jvm.MethodName)) ∈ lw_all := lw_g (lw_at lw_m4 51 rfl) rfl
theorem q865 : (Jvm.Cond.sameMethod "Samovar$Fuel" "Samovar$Fuel" "lasts" "()I") ∈ lw_all := lw_g (lw_at lw_m4 52 rfl) rfl
theorem q866 : (Jvm.Cond.selects "Samovar$Birch" ({ cls := "Samovar$Fuel", name := "lasts", desc := "()I" } : Jvm.MethodName) ({ cls := "Samovar$Birch", name := "lasts", desc := "()I" } : Jvm.MethodName)) ∈ lw_all := lw_g (lw_at lw_m4 53 rfl) rfl
theorem q867 : (Jvm.Cond.instanceMethod ({ cls := "Samovar$Birch", name := "lasts", desc := "()I" } : Jvm.MethodName)) ∈ lw_all := lw_g (lw_at lw_m4 54 rfl) rfl
theorem q868 : (Jvm.Cond.code ({ cls := "Samovar$Birch", name := "lasts", desc := "()I" } : Jvm.MethodName) prog_2_method_4_code (1 : Nat) (Option.some Jvm.ClassFile.FieldType.int)) ∈ lw_all := lw_g (lw_at lw_m4 55 rfl) rfl
theorem q869 : (Jvm.Cond.methodLink "Samovar$Birch" (14 : Nat) ({ cls := "Samovar$Fuel", name := "lasts", desc := "()I" } : Jvm.MethodName)) ∈ lw_all := lw_g (lw_at lw_m4 56 rfl) rfl
theorem q870 : (Jvm.Cond.code ({ cls := "Samovar$Fuel", name := "lasts", desc := "()I" } : Jvm.MethodName) prog_6_method_4_code (1 : Nat) (Option.some Jvm.ClassFile.FieldType.int)) ∈ lw_all := lw_g (lw_at lw_m4 57 rfl) rfl
theorem q871 : (Jvm.Cond.selects "Samovar$Charcoal" ({ cls := "Samovar$Fuel", name := "lasts", desc := "()I" } : Jvm.MethodName) ({ cls := "Samovar$Charcoal", name := "lasts", desc := "()I" } : Jvm.MethodName)) ∈ lw_all := lw_g (lw_at lw_m4 58 rfl) rfl
theorem q872 : (Jvm.Cond.instanceMethod ({ cls := "Samovar$Charcoal", name := "lasts", desc := "()I" } : Jvm.MethodName)) ∈ lw_all := lw_g (lw_at lw_m4 59 rfl) rfl
theorem q873 : (Jvm.Cond.code ({ cls := "Samovar$Charcoal", name := "lasts", desc := "()I" } : Jvm.MethodName) prog_3_method_4_code (1 : Nat) (Option.some Jvm.ClassFile.FieldType.int)) ∈ lw_all := lw_g (lw_at lw_m4 60 rfl) rfl
theorem q874 : (Jvm.Cond.methodLink "Samovar$Charcoal" (14 : Nat) ({ cls := "Samovar$Birch", name := "lasts", desc := "()I" } : Jvm.MethodName)) ∈ lw_all := lw_g (lw_at lw_m4 61 rfl) rfl
theorem q875 : (Jvm.Cond.methodLinkNest "Samovar$Piece" (29 : Nat) ({ cls := "Samovar", name := "in", desc := "(JJJ)Z" } : Jvm.MethodName) "Samovar") ∈ lw_tbl := lw_at lw_m4 62 rfl
theorem q876 : (Jvm.Cond.methodLink "Samovar$Piece" (35 : Nat) ({ cls := "Samovar$Fuel", name := "gives", desc := "()I" } : Jvm.MethodName)) ∈ lw_all := lw_g (lw_at lw_m4 63 rfl) rfl
theorem q877 : (Jvm.Cond.instanceMethod ({ cls := "Samovar$Fuel", name := "gives", desc := "()I" } : Jvm.MethodName)) ∈ lw_all := lw_g (lw_at lw_m4 64 rfl) rfl
theorem q878 : (Jvm.Cond.selects "Samovar$Fuel" ({ cls := "Samovar$Fuel", name := "gives", desc := "()I" } : Jvm.MethodName) ({ cls := "Samovar$Fuel", name := "gives", desc := "()I" } : Jvm.MethodName)) ∈ lw_all := lw_g (lw_at lw_m4 65 rfl) rfl
theorem q879 : (Jvm.Cond.sameMethod "Samovar$Fuel" "Samovar$Fuel" "gives" "()I") ∈ lw_all := lw_g (lw_at lw_m4 66 rfl) rfl
theorem q880 : (Jvm.Cond.selects "Samovar$Birch" ({ cls := "Samovar$Fuel", name := "gives", desc := "()I" } : Jvm.MethodName) ({ cls := "Samovar$Birch", name := "gives", desc := "()I" } : Jvm.MethodName)) ∈ lw_all := lw_g (lw_at lw_m4 67 rfl) rfl
theorem q881 : (Jvm.Cond.instanceMethod ({ cls := "Samovar$Birch", name := "gives", desc := "()I" } : Jvm.MethodName)) ∈ lw_all := lw_g (lw_at lw_m4 68 rfl) rfl
theorem q882 : (Jvm.Cond.code ({ cls := "Samovar$Birch", name := "gives", desc := "()I" } : Jvm.MethodName) prog_2_method_3_code (1 : Nat) (Option.some Jvm.ClassFile.FieldType.int)) ∈ lw_all := lw_g (lw_at lw_m4 69 rfl) rfl
theorem q883 : (Jvm.Cond.methodLink "Samovar$Birch" (11 : Nat) ({ cls := "Samovar$Fuel", name := "gives", desc := "()I" } : Jvm.MethodName)) ∈ lw_all := lw_g (lw_at lw_m4 70 rfl) rfl
theorem q884 : (Jvm.Cond.code ({ cls := "Samovar$Fuel", name := "gives", desc := "()I" } : Jvm.MethodName) prog_6_method_3_code (1 : Nat) (Option.some Jvm.ClassFile.FieldType.int)) ∈ lw_all := lw_g (lw_at lw_m4 71 rfl) rfl
theorem q885 : (Jvm.Cond.selects "Samovar$Charcoal" ({ cls := "Samovar$Fuel", name := "gives", desc := "()I" } : Jvm.MethodName) ({ cls := "Samovar$Charcoal", name := "gives", desc := "()I" } : Jvm.MethodName)) ∈ lw_all := lw_g (lw_at lw_m4 72 rfl) rfl
theorem q886 : (Jvm.Cond.instanceMethod ({ cls := "Samovar$Charcoal", name := "gives", desc := "()I" } : Jvm.MethodName)) ∈ lw_all := lw_g (lw_at lw_m4 73 rfl) rfl
theorem q887 : (Jvm.Cond.code ({ cls := "Samovar$Charcoal", name := "gives", desc := "()I" } : Jvm.MethodName) prog_3_method_3_code (1 : Nat) (Option.some Jvm.ClassFile.FieldType.int)) ∈ lw_all := lw_g (lw_at lw_m4 74 rfl) rfl
theorem q888 : (Jvm.Cond.methodLink "Samovar$Charcoal" (11 : Nat) ({ cls := "Samovar$Birch", name := "gives", desc := "()I" } : Jvm.MethodName)) ∈ lw_all := lw_g (lw_at lw_m4 75 rfl) rfl
theorem q889 : (Jvm.Cond.methodLink "Samovar" (260 : Nat) ({ cls := "Samovar", name := "queues", desc := "(IZ)V" } : Jvm.MethodName)) ∈ lw_all := lw_g (lw_at lw_m4 76 rfl) rfl
theorem q890 : (Jvm.Cond.privateMethod ({ cls := "Samovar", name := "queues", desc := "(IZ)V" } : Jvm.MethodName)) ∈ lw_tbl := lw_at lw_m4 77 rfl
theorem q891 : (Jvm.Cond.instanceMethod ({ cls := "Samovar", name := "queues", desc := "(IZ)V" } : Jvm.MethodName)) ∈ lw_all := lw_g (lw_at lw_m4 78 rfl) rfl
theorem q892 : (Jvm.Cond.code ({ cls := "Samovar", name := "queues", desc := "(IZ)V" } : Jvm.MethodName) prog_1_method_25_code (4 : Nat) (Option.none : Option Jvm.ClassFile.FieldType)) ∈ lw_all := lw_g (lw_at lw_m4 79 rfl) rfl
theorem q893 : (Jvm.Cond.methodLink "Samovar" (224 : Nat) ({ cls := "Samovar$Guest", name := "comes", desc := "(IZ)Z" } : Jvm.MethodName)) ∈ lw_all := lw_g (lw_at lw_m4 80 rfl) rfl
theorem q894 : (Jvm.Cond.instanceMethod ({ cls := "Samovar$Guest", name := "comes", desc := "(IZ)Z" } : Jvm.MethodName)) ∈ lw_all := lw_g (lw_at lw_m4 81 rfl) rfl
theorem q895 : (Jvm.Cond.selects "Samovar$Guest" ({ cls := "Samovar$Guest", name := "comes", desc := "(IZ)Z" } : Jvm.MethodName) ({ cls := "Samovar$Guest", name := "comes", desc := "(IZ)Z" } : Jvm.MethodName)) ∈ lw_all := lw_g (lw_at lw_m4 82 rfl) rfl
theorem q896 : (Jvm.Cond.code ({ cls := "Samovar$Guest", name := "comes", desc := "(IZ)Z" } : Jvm.MethodName) prog_7_method_4_code (4 : Nat) (Option.some Jvm.ClassFile.FieldType.boolean)) ∈ lw_all := lw_g (lw_at lw_m4 83 rfl) rfl
theorem q897 : (Jvm.Cond.methodLink "Samovar" (264 : Nat) ({ cls := "Samovar", name := "serves", desc := "(I)I" } : Jvm.MethodName)) ∈ lw_all := lw_g (lw_at lw_m4 84 rfl) rfl
theorem q898 : (Jvm.Cond.privateMethod ({ cls := "Samovar", name := "serves", desc := "(I)I" } : Jvm.MethodName)) ∈ lw_tbl := lw_at lw_m4 85 rfl
theorem q899 : (Jvm.Cond.instanceMethod ({ cls := "Samovar", name := "serves", desc := "(I)I" } : Jvm.MethodName)) ∈ lw_all := lw_g (lw_at lw_m4 86 rfl) rfl
theorem q900 : (Jvm.Cond.code ({ cls := "Samovar", name := "serves", desc := "(I)I" } : Jvm.MethodName) prog_1_method_26_code (4 : Nat) (Option.some Jvm.ClassFile.FieldType.int)) ∈ lw_all := lw_g (lw_at lw_m4 87 rfl) rfl
theorem q901 : (Jvm.Cond.methodLink "Samovar" (232 : Nat) ({ cls := "Samovar$Taste", name := "needs", desc := "()I" } : Jvm.MethodName)) ∈ lw_all := lw_g (lw_at lw_m4 88 rfl) rfl
theorem q902 : (Jvm.Cond.instanceMethod ({ cls := "Samovar$Taste", name := "needs", desc := "()I" } : Jvm.MethodName)) ∈ lw_all := lw_g (lw_at lw_m4 89 rfl) rfl
theorem q903 : (Jvm.Cond.selects "Samovar$Taste" ({ cls := "Samovar$Taste", name := "needs", desc := "()I" } : Jvm.MethodName) ({ cls := "Samovar$Taste", name := "needs", desc := "()I" } : Jvm.MethodName)) ∈ lw_all := lw_g (lw_at lw_m4 90 rfl) rfl
theorem q904 : (Jvm.Cond.sameMethod "Samovar$Taste" "Samovar$Taste" "needs" "()I") ∈ lw_all := lw_g (lw_at lw_m4 91 rfl) rfl
theorem q905 : (Jvm.Cond.selects "Samovar$Dark" ({ cls := "Samovar$Taste", name := "needs", desc := "()I" } : Jvm.MethodName) ({ cls := "Samovar$Dark", name := "needs", desc := "()I" } : Jvm.MethodName)) ∈ lw_all := lw_g (lw_at lw_m4 92 rfl) rfl
theorem q906 : (Jvm.Cond.instanceMethod ({ cls := "Samovar$Dark", name := "needs", desc := "()I" } : Jvm.MethodName)) ∈ lw_all := lw_g (lw_at lw_m4 93 rfl) rfl
theorem q907 : (Jvm.Cond.code ({ cls := "Samovar$Dark", name := "needs", desc := "()I" } : Jvm.MethodName) prog_5_method_3_code (1 : Nat) (Option.some Jvm.ClassFile.FieldType.int)) ∈ lw_all := lw_g (lw_at lw_m4 94 rfl) rfl
theorem q908 : (Jvm.Cond.methodLink "Samovar$Dark" (11 : Nat) ({ cls := "Samovar$Taste", name := "needs", desc := "()I" } : Jvm.MethodName)) ∈ lw_all := lw_g (lw_at lw_m4 95 rfl) rfl
theorem q909 : (Jvm.Cond.code ({ cls := "Samovar$Taste", name := "needs", desc := "()I" } : Jvm.MethodName) prog_10_method_3_code (1 : Nat) (Option.some Jvm.ClassFile.FieldType.int)) ∈ lw_all := lw_g (lw_at lw_m4 96 rfl) rfl
theorem q910 : (Jvm.Cond.methodLink "Samovar" (240 : Nat) ({ cls := "Samovar$Guest", name := "served", desc := "(I)V" } : Jvm.MethodName)) ∈ lw_all := lw_g (lw_at lw_m4 97 rfl) rfl
theorem q911 : (Jvm.Cond.instanceMethod ({ cls := "Samovar$Guest", name := "served", desc := "(I)V" } : Jvm.MethodName)) ∈ lw_all := lw_g (lw_at lw_m4 98 rfl) rfl
theorem q912 : (Jvm.Cond.selects "Samovar$Guest" ({ cls := "Samovar$Guest", name := "served", desc := "(I)V" } : Jvm.MethodName) ({ cls := "Samovar$Guest", name := "served", desc := "(I)V" } : Jvm.MethodName)) ∈ lw_all := lw_g (lw_at lw_m4 99 rfl) rfl
theorem q913 : (Jvm.Cond.code ({ cls := "Samovar$Guest", name := "served", desc := "(I)V" } : Jvm.MethodName) prog_7_method_5_code (2 : Nat) (Option.none : Option Jvm.ClassFile.FieldType)) ∈ lw_all := lw_g (lw_at lw_m4 100 rfl) rfl
theorem q914 : (Jvm.Cond.methodLink "Samovar$Guest" (43 : Nat) ({ cls := "Samovar$Taste", name := "drinks", desc := "()I" } : Jvm.MethodName)) ∈ lw_all := lw_g (lw_at lw_m4 101 rfl) rfl
theorem q915 : (Jvm.Cond.instanceMethod ({ cls := "Samovar$Taste", name := "drinks", desc := "()I" } : Jvm.MethodName)) ∈ lw_all := lw_g (lw_at lw_m4 102 rfl) rfl
theorem q916 : (Jvm.Cond.selects "Samovar$Taste" ({ cls := "Samovar$Taste", name := "drinks", desc := "()I" } : Jvm.MethodName) ({ cls := "Samovar$Taste", name := "drinks", desc := "()I" } : Jvm.MethodName)) ∈ lw_all := lw_g (lw_at lw_m4 103 rfl) rfl
theorem q917 : (Jvm.Cond.sameMethod "Samovar$Taste" "Samovar$Taste" "drinks" "()I") ∈ lw_all := lw_g (lw_at lw_m4 104 rfl) rfl
theorem q918 : (Jvm.Cond.selects "Samovar$Dark" ({ cls := "Samovar$Taste", name := "drinks", desc := "()I" } : Jvm.MethodName) ({ cls := "Samovar$Dark", name := "drinks", desc := "()I" } : Jvm.MethodName)) ∈ lw_all := lw_g (lw_at lw_m4 105 rfl) rfl
theorem q919 : (Jvm.Cond.instanceMethod ({ cls := "Samovar$Dark", name := "drinks", desc := "()I" } : Jvm.MethodName)) ∈ lw_all := lw_g (lw_at lw_m4 106 rfl) rfl
theorem q920 : (Jvm.Cond.code ({ cls := "Samovar$Dark", name := "drinks", desc := "()I" } : Jvm.MethodName) prog_5_method_4_code (1 : Nat) (Option.some Jvm.ClassFile.FieldType.int)) ∈ lw_all := lw_g (lw_at lw_m4 107 rfl) rfl
theorem q921 : (Jvm.Cond.methodLink "Samovar$Dark" (14 : Nat) ({ cls := "Samovar$Taste", name := "drinks", desc := "()I" } : Jvm.MethodName)) ∈ lw_all := lw_g (lw_at lw_m4 108 rfl) rfl
theorem q922 : (Jvm.Cond.code ({ cls := "Samovar$Taste", name := "drinks", desc := "()I" } : Jvm.MethodName) prog_10_method_4_code (1 : Nat) (Option.some Jvm.ClassFile.FieldType.int)) ∈ lw_all := lw_g (lw_at lw_m4 109 rfl) rfl
theorem q923 : (Jvm.Cond.methodLink "Samovar" (243 : Nat) ({ cls := "java/util/ArrayList", name := "indexOf", desc := "(Ljava/lang/Object;)I" } : Jvm.MethodName)) ∈ lw_all := lw_g (lw_at lw_m4 110 rfl) rfl
theorem q924 : (Jvm.Cond.instanceMethod ({ cls := "java/util/ArrayList", name := "indexOf", desc := "(Ljava/lang/Object;)I" } : Jvm.MethodName)) ∈ lw_all := lw_g (lw_at lw_m4 111 rfl) rfl
theorem q925 : (Jvm.Cond.selects "java/util/ArrayList" ({ cls := "java/util/ArrayList", name := "indexOf", desc := "(Ljava/lang/Object;)I" } : Jvm.MethodName) ({ cls := "java/util/ArrayList", name := "indexOf", desc := "(Ljava/lang/Object;)I" } : Jvm.MethodName)) ∈ lw_all := lw_g (lw_at lw_m4 112 rfl) rfl
theorem q926 : (Jvm.Cond.code ({ cls := "java/util/ArrayList", name := "indexOf", desc := "(Ljava/lang/Object;)I" } : Jvm.MethodName) prog_38_method_11_code (2 : Nat) (Option.some Jvm.ClassFile.FieldType.int)) ∈ lw_all := lw_g (lw_at lw_m4 113 rfl) rfl
theorem q927 : (Jvm.Cond.methodLink "java/util/ArrayList" (89 : Nat) ({ cls := "java/util/ArrayList", name := "indexOfRange", desc := "(Ljava/lang/Object;II)I" } : Jvm.MethodName)) ∈ lw_all := lw_g (lw_at lw_m4 114 rfl) rfl
theorem q928 : (Jvm.Cond.instanceMethod ({ cls := "java/util/ArrayList", name := "indexOfRange", desc := "(Ljava/lang/Object;II)I" } : Jvm.MethodName)) ∈ lw_all := lw_g (lw_at lw_m4 115 rfl) rfl
theorem q929 : (Jvm.Cond.selects "java/util/ArrayList" ({ cls := "java/util/ArrayList", name := "indexOfRange", desc := "(Ljava/lang/Object;II)I" } : Jvm.MethodName) ({ cls := "java/util/ArrayList", name := "indexOfRange", desc := "(Ljava/lang/Object;II)I" } : Jvm.MethodName)) ∈ lw_all := lw_g (lw_at lw_m4 116 rfl) rfl
theorem q930 : (Jvm.Cond.code ({ cls := "java/util/ArrayList", name := "indexOfRange", desc := "(Ljava/lang/Object;II)I" } : Jvm.MethodName) prog_38_method_12_code (6 : Nat) (Option.some Jvm.ClassFile.FieldType.int)) ∈ lw_all := lw_g (lw_at lw_m4 117 rfl) rfl
theorem q931 : (Jvm.Cond.declares ({ cls := "java/lang/Object", name := "equals", desc := "(Ljava/lang/Object;)Z" } : Jvm.MethodName)) ∈ lw_tbl := lw_at lw_m4 118 rfl
theorem q932 : (Jvm.Cond.methodLink "java/util/ArrayList" (93 : Nat) ({ cls := "java/lang/Object", name := "equals", desc := "(Ljava/lang/Object;)Z" } : Jvm.MethodName)) ∈ lw_all := lw_g (lw_at lw_m4 119 rfl) rfl
theorem q933 : (Jvm.Cond.instanceMethod ({ cls := "java/lang/Object", name := "equals", desc := "(Ljava/lang/Object;)Z" } : Jvm.MethodName)) ∈ lw_all := lw_g (lw_at lw_m4 120 rfl) rfl
theorem q934 : (Jvm.Cond.sameMethod "java/lang/Object" "java/lang/Object" "equals" "(Ljava/lang/Object;)Z") ∈ lw_all := lw_g (lw_at lw_m4 121 rfl) rfl
theorem q935 : (Jvm.Cond.selects "Samovar" ({ cls := "java/lang/Object", name := "equals", desc := "(Ljava/lang/Object;)Z" } : Jvm.MethodName) ({ cls := "java/lang/Object", name := "equals", desc := "(Ljava/lang/Object;)Z" } : Jvm.MethodName)) ∈ lw_all := lw_g (lw_at lw_m4 122 rfl) rfl
theorem q936 : (Jvm.Cond.selects "Samovar$Birch" ({ cls := "java/lang/Object", name := "equals", desc := "(Ljava/lang/Object;)Z" } : Jvm.MethodName) ({ cls := "java/lang/Object", name := "equals", desc := "(Ljava/lang/Object;)Z" } : Jvm.MethodName)) ∈ lw_all := lw_g (lw_at lw_m4 123 rfl) rfl
theorem q937 : (Jvm.Cond.selects "Samovar$Charcoal" ({ cls := "java/lang/Object", name := "equals", desc := "(Ljava/lang/Object;)Z" } : Jvm.MethodName) ({ cls := "java/lang/Object", name := "equals", desc := "(Ljava/lang/Object;)Z" } : Jvm.MethodName)) ∈ lw_all := lw_g (lw_at lw_m4 124 rfl) rfl
theorem q938 : (Jvm.Cond.selects "Samovar$Company" ({ cls := "java/lang/Object", name := "equals", desc := "(Ljava/lang/Object;)Z" } : Jvm.MethodName) ({ cls := "java/lang/Object", name := "equals", desc := "(Ljava/lang/Object;)Z" } : Jvm.MethodName)) ∈ lw_all := lw_g (lw_at lw_m4 125 rfl) rfl
theorem q939 : (Jvm.Cond.selects "Samovar$Dark" ({ cls := "java/lang/Object", name := "equals", desc := "(Ljava/lang/Object;)Z" } : Jvm.MethodName) ({ cls := "java/lang/Object", name := "equals", desc := "(Ljava/lang/Object;)Z" } : Jvm.MethodName)) ∈ lw_all := lw_g (lw_at lw_m4 126 rfl) rfl
theorem q940 : (Jvm.Cond.selects "Samovar$Fuel" ({ cls := "java/lang/Object", name := "equals", desc := "(Ljava/lang/Object;)Z" } : Jvm.MethodName) ({ cls := "java/lang/Object", name := "equals", desc := "(Ljava/lang/Object;)Z" } : Jvm.MethodName)) ∈ lw_all := lw_g (lw_at lw_m4 127 rfl) rfl
theorem q941 : (Jvm.Cond.selects "Samovar$Guest" ({ cls := "java/lang/Object", name := "equals", desc := "(Ljava/lang/Object;)Z" } : Jvm.MethodName) ({ cls := "java/lang/Object", name := "equals", desc := "(Ljava/lang/Object;)Z" } : Jvm.MethodName)) ∈ lw_all := lw_g (lw_at lw_m4 128 rfl) rfl
theorem q942 : (Jvm.Cond.selects "Samovar$Piece" ({ cls := "java/lang/Object", name := "equals", desc := "(Ljava/lang/Object;)Z" } : Jvm.MethodName) ({ cls := "java/lang/Object", name := "equals", desc := "(Ljava/lang/Object;)Z" } : Jvm.MethodName)) ∈ lw_all := lw_g (lw_at lw_m4 129 rfl) rfl
theorem q943 : (Jvm.Cond.selects "Samovar$Sheet" ({ cls := "java/lang/Object", name := "equals", desc := "(Ljava/lang/Object;)Z" } : Jvm.MethodName) ({ cls := "java/lang/Object", name := "equals", desc := "(Ljava/lang/Object;)Z" } : Jvm.MethodName)) ∈ lw_all := lw_g (lw_at lw_m4 130 rfl) rfl
theorem q944 : (Jvm.Cond.selects "Samovar$Taste" ({ cls := "java/lang/Object", name := "equals", desc := "(Ljava/lang/Object;)Z" } : Jvm.MethodName) ({ cls := "java/lang/Object", name := "equals", desc := "(Ljava/lang/Object;)Z" } : Jvm.MethodName)) ∈ lw_all := lw_g (lw_at lw_m4 131 rfl) rfl
theorem q945 : (Jvm.Cond.selects "Samovar$Torn" ({ cls := "java/lang/Object", name := "equals", desc := "(Ljava/lang/Object;)Z" } : Jvm.MethodName) ({ cls := "java/lang/Object", name := "equals", desc := "(Ljava/lang/Object;)Z" } : Jvm.MethodName)) ∈ lw_all := lw_g (lw_at lw_m4 132 rfl) rfl
theorem q946 : (Jvm.Cond.selects "Samovar$Woodpile" ({ cls := "java/lang/Object", name := "equals", desc := "(Ljava/lang/Object;)Z" } : Jvm.MethodName) ({ cls := "java/lang/Object", name := "equals", desc := "(Ljava/lang/Object;)Z" } : Jvm.MethodName)) ∈ lw_all := lw_g (lw_at lw_m4 133 rfl) rfl
theorem q947 : (Jvm.Cond.selects "SamovarModel" ({ cls := "java/lang/Object", name := "equals", desc := "(Ljava/lang/Object;)Z" } : Jvm.MethodName) ({ cls := "java/lang/Object", name := "equals", desc := "(Ljava/lang/Object;)Z" } : Jvm.MethodName)) ∈ lw_all := lw_g (lw_at lw_m4 134 rfl) rfl
theorem q948 : (Jvm.Cond.selects "java/lang/ArrayIndexOutOfBoundsException" ({ cls := "java/lang/Object", name := "equals", desc := "(Ljava/lang/Object;)Z" } : Jvm.MethodName) ({ cls := "java/lang/Object", name := "equals", desc := "(Ljava/lang/Object;)Z" } : Jvm.MethodName)) ∈ lw_all := lw_g (lw_at lw_m4 135 rfl) rfl
theorem q949 : (Jvm.Cond.selects "java/lang/ClassCastException" ({ cls := "java/lang/Object", name := "equals", desc := "(Ljava/lang/Object;)Z" } : Jvm.MethodName) ({ cls := "java/lang/Object", name := "equals", desc := "(Ljava/lang/Object;)Z" } : Jvm.MethodName)) ∈ lw_all := lw_g (lw_at lw_m4 136 rfl) rfl
theorem q950 : (Jvm.Cond.selects "java/lang/NegativeArraySizeException" ({ cls := "java/lang/Object", name := "equals", desc := "(Ljava/lang/Object;)Z" } : Jvm.MethodName) ({ cls := "java/lang/Object", name := "equals", desc := "(Ljava/lang/Object;)Z" } : Jvm.MethodName)) ∈ lw_all := lw_g (lw_at lw_m4 137 rfl) rfl
theorem q951 : (Jvm.Cond.selects "java/lang/String" ({ cls := "java/lang/Object", name := "equals", desc := "(Ljava/lang/Object;)Z" } : Jvm.MethodName) ({ cls := "java/lang/String", name := "equals", desc := "(Ljava/lang/Object;)Z" } : Jvm.MethodName)) ∈ lw_all := lw_g (lw_at lw_m4 138 rfl) rfl
theorem q952 : (Jvm.Cond.instanceMethod ({ cls := "java/lang/String", name := "equals", desc := "(Ljava/lang/Object;)Z" } : Jvm.MethodName)) ∈ lw_all := lw_g (lw_at lw_m4 139 rfl) rfl
theorem q953 : (Jvm.Cond.code ({ cls := "java/lang/String", name := "equals", desc := "(Ljava/lang/Object;)Z" } : Jvm.MethodName) prog_29_method_66_code (3 : Nat) (Option.some Jvm.ClassFile.FieldType.boolean)) ∈ lw_all := lw_g (lw_at lw_m4 140 rfl) rfl
theorem q954 : (Jvm.Cond.classLink "java/lang/String" (10 : Nat) "java/lang/String") ∈ lw_all := lw_g (lw_at lw_m4 141 rfl) rfl
theorem q955 : (Jvm.Cond.methodLink "java/lang/String" (541 : Nat) ({ cls := "java/lang/StringLatin1", name := "equals", desc := "([B[B)Z" } : Jvm.MethodName)) ∈ lw_all := lw_g (lw_at lw_m4 142 rfl) rfl
theorem q956 : (Jvm.Cond.static ({ cls := "java/lang/StringLatin1", name := "equals", desc := "([B[B)Z" } : Jvm.MethodName)) ∈ lw_all := lw_g (lw_at lw_m4 143 rfl) rfl
theorem q957 : (Jvm.Cond.code ({ cls := "java/lang/StringLatin1", name := "equals", desc := "([B[B)Z" } : Jvm.MethodName) prog_30_method_13_code (3 : Nat) (Option.some Jvm.ClassFile.FieldType.boolean)) ∈ lw_all := lw_g (lw_at lw_m4 144 rfl) rfl
theorem q958 : (Jvm.Cond.code ({ cls := "java/lang/Object", name := "equals", desc := "(Ljava/lang/Object;)Z" } : Jvm.MethodName) object_method_4_code (2 : Nat) (Option.some Jvm.ClassFile.FieldType.boolean)) ∈ lw_all := lw_g (lw_at lw_m4 145 rfl) rfl
theorem q959 : (Jvm.Cond.methodLink "Samovar" (267 : Nat) ({ cls := "Samovar", name := "tire", desc := "()V" } : Jvm.MethodName)) ∈ lw_all := lw_g (lw_at lw_m4 146 rfl) rfl
theorem q960 : (Jvm.Cond.privateMethod ({ cls := "Samovar", name := "tire", desc := "()V" } : Jvm.MethodName)) ∈ lw_tbl := lw_at lw_m4 147 rfl
theorem q961 : (Jvm.Cond.instanceMethod ({ cls := "Samovar", name := "tire", desc := "()V" } : Jvm.MethodName)) ∈ lw_all := lw_g (lw_at lw_m4 148 rfl) rfl
theorem q962 : (Jvm.Cond.code ({ cls := "Samovar", name := "tire", desc := "()V" } : Jvm.MethodName) prog_1_method_27_code (3 : Nat) (Option.none : Option Jvm.ClassFile.FieldType)) ∈ lw_all := lw_g (lw_at lw_m4 149 rfl) rfl
theorem q963 : (Jvm.Cond.constantLong "Samovar" (288 : Nat) (5 : Int64)) ∈ lw_all := lw_g (lw_at lw_m4 150 rfl) rfl
theorem q964 : (Jvm.Cond.methodLink "SamovarLaw" (61 : Nat) ({ cls := "Samovar", name := "is", desc := "(III)I" } : Jvm.MethodName)) ∈ lw_all := lw_g (lw_at lw_m4 151 rfl) rfl
theorem q965 : (Jvm.Cond.instanceMethod ({ cls := "Samovar", name := "is", desc := "(III)I" } : Jvm.MethodName)) ∈ lw_all := lw_g (lw_at lw_m4 152 rfl) rfl
theorem q966 : (Jvm.Cond.selects "Samovar" ({ cls := "Samovar", name := "is", desc := "(III)I" } : Jvm.MethodName) ({ cls := "Samovar", name := "is", desc := "(III)I" } : Jvm.MethodName)) ∈ lw_all := lw_g (lw_at lw_m4 153 rfl) rfl
theorem q967 : (Jvm.Cond.code ({ cls := "Samovar", name := "is", desc := "(III)I" } : Jvm.MethodName) prog_1_method_31_code (4 : Nat) (Option.some Jvm.ClassFile.FieldType.int)) ∈ lw_all := lw_g (lw_at lw_m4 154 rfl) rfl
theorem q968 : (Jvm.Cond.methodLink "SamovarLaw" (65 : Nat) ({ cls := "Samovar", name := "line", desc := "(I)I" } : Jvm.MethodName)) ∈ lw_all := lw_g (lw_at lw_m4 155 rfl) rfl
theorem q969 : (Jvm.Cond.instanceMethod ({ cls := "Samovar", name := "line", desc := "(I)I" } : Jvm.MethodName)) ∈ lw_all := lw_g (lw_at lw_m4 156 rfl) rfl
theorem q970 : (Jvm.Cond.selects "Samovar" ({ cls := "Samovar", name := "line", desc := "(I)I" } : Jvm.MethodName) ({ cls := "Samovar", name := "line", desc := "(I)I" } : Jvm.MethodName)) ∈ lw_all := lw_g (lw_at lw_m4 157 rfl) rfl
theorem q971 : (Jvm.Cond.code ({ cls := "Samovar", name := "line", desc := "(I)I" } : Jvm.MethodName) prog_1_method_32_code (2 : Nat) (Option.some Jvm.ClassFile.FieldType.int)) ∈ lw_all := lw_g (lw_at lw_m4 158 rfl) rfl
theorem q972 : (Jvm.Cond.methodLink "SamovarLaw" (69 : Nat) ({ cls := "Samovar", name := "sum", desc := "(I)I" } : Jvm.MethodName)) ∈ lw_all := lw_g (lw_at lw_m4 159 rfl) rfl
theorem q973 : (Jvm.Cond.instanceMethod ({ cls := "Samovar", name := "sum", desc := "(I)I" } : Jvm.MethodName)) ∈ lw_all := lw_g (lw_at lw_m4 160 rfl) rfl
theorem q974 : (Jvm.Cond.selects "Samovar" ({ cls := "Samovar", name := "sum", desc := "(I)I" } : Jvm.MethodName) ({ cls := "Samovar", name := "sum", desc := "(I)I" } : Jvm.MethodName)) ∈ lw_all := lw_g (lw_at lw_m4 161 rfl) rfl
theorem q975 : (Jvm.Cond.code ({ cls := "Samovar", name := "sum", desc := "(I)I" } : Jvm.MethodName) prog_1_method_36_code (2 : Nat) (Option.some Jvm.ClassFile.FieldType.int)) ∈ lw_all := lw_g (lw_at lw_m4 162 rfl) rfl
theorem q976 : (Jvm.Cond.constantLong "Samovar" (296 : Nat) (4 : Int64)) ∈ lw_all := lw_g (lw_at lw_m4 163 rfl) rfl
theorem q977 : (Jvm.Cond.methodLink "Samovar" (298 : Nat) ({ cls := "Samovar", name := "sumBy", desc := "(I)I" } : Jvm.MethodName)) ∈ lw_all := lw_g (lw_at lw_m4 164 rfl) rfl
theorem q978 : (Jvm.Cond.privateMethod ({ cls := "Samovar", name := "sumBy", desc := "(I)I" } : Jvm.MethodName)) ∈ lw_tbl := lw_at lw_m4 165 rfl
theorem q979 : (Jvm.Cond.instanceMethod ({ cls := "Samovar", name := "sumBy", desc := "(I)I" } : Jvm.MethodName)) ∈ lw_all := lw_g (lw_at lw_m4 166 rfl) rfl
theorem q980 : (Jvm.Cond.code ({ cls := "Samovar", name := "sumBy", desc := "(I)I" } : Jvm.MethodName) prog_1_method_35_code (2 : Nat) (Option.some Jvm.ClassFile.FieldType.int)) ∈ lw_all := lw_g (lw_at lw_m4 167 rfl) rfl
theorem q981 : (Jvm.Cond.methodLink "Samovar" (290 : Nat) ({ cls := "Samovar", name := "manyNow", desc := "(I)I" } : Jvm.MethodName)) ∈ lw_all := lw_g (lw_at lw_m4 168 rfl) rfl
theorem q982 : (Jvm.Cond.privateMethod ({ cls := "Samovar", name := "manyNow", desc := "(I)I" } : Jvm.MethodName)) ∈ lw_tbl := lw_at lw_m4 169 rfl
theorem q983 : (Jvm.Cond.instanceMethod ({ cls := "Samovar", name := "manyNow", desc := "(I)I" } : Jvm.MethodName)) ∈ lw_all := lw_g (lw_at lw_m4 170 rfl) rfl
theorem q984 : (Jvm.Cond.code ({ cls := "Samovar", name := "manyNow", desc := "(I)I" } : Jvm.MethodName) prog_1_method_33_code (4 : Nat) (Option.some Jvm.ClassFile.FieldType.int)) ∈ lw_all := lw_g (lw_at lw_m4 171 rfl) rfl
theorem q985 : (Jvm.Cond.methodLink "Samovar" (293 : Nat) ({ cls := "Samovar", name := "boiled", desc := "()I" } : Jvm.MethodName)) ∈ lw_all := lw_g (lw_at lw_m4 172 rfl) rfl
theorem q986 : (Jvm.Cond.privateMethod ({ cls := "Samovar", name := "boiled", desc := "()I" } : Jvm.MethodName)) ∈ lw_tbl := lw_at lw_m4 173 rfl
theorem q987 : (Jvm.Cond.instanceMethod ({ cls := "Samovar", name := "boiled", desc := "()I" } : Jvm.MethodName)) ∈ lw_all := lw_g (lw_at lw_m4 174 rfl) rfl
theorem q988 : (Jvm.Cond.code ({ cls := "Samovar", name := "boiled", desc := "()I" } : Jvm.MethodName) prog_1_method_34_code (3 : Nat) (Option.some Jvm.ClassFile.FieldType.int)) ∈ lw_all := lw_g (lw_at lw_m4 175 rfl) rfl
theorem q989 : (Jvm.Cond.methodLink "SamovarLaw" (73 : Nat) ({ cls := "Samovar", name := "first", desc := "()I" } : Jvm.MethodName)) ∈ lw_all := lw_g (lw_at lw_m4 176 rfl) rfl
theorem q990 : (Jvm.Cond.instanceMethod ({ cls := "Samovar", name := "first", desc := "()I" } : Jvm.MethodName)) ∈ lw_all := lw_g (lw_at lw_m4 177 rfl) rfl
theorem q991 : (Jvm.Cond.selects "Samovar" ({ cls := "Samovar", name := "first", desc := "()I" } : Jvm.MethodName) ({ cls := "Samovar", name := "first", desc := "()I" } : Jvm.MethodName)) ∈ lw_all := lw_g (lw_at lw_m4 178 rfl) rfl
theorem q992 : (Jvm.Cond.code ({ cls := "Samovar", name := "first", desc := "()I" } : Jvm.MethodName) prog_1_method_38_code (1 : Nat) (Option.some Jvm.ClassFile.FieldType.int)) ∈ lw_all := lw_g (lw_at lw_m4 179 rfl) rfl
theorem q993 : (Jvm.Cond.methodLink "Samovar" (301 : Nat) ({ cls := "Samovar", name := "firstNow", desc := "()I" } : Jvm.MethodName)) ∈ lw_all := lw_g (lw_at lw_m4 180 rfl) rfl
theorem q994 : (Jvm.Cond.privateMethod ({ cls := "Samovar", name := "firstNow", desc := "()I" } : Jvm.MethodName)) ∈ lw_tbl := lw_at lw_m4 181 rfl
theorem q995 : (Jvm.Cond.instanceMethod ({ cls := "Samovar", name := "firstNow", desc := "()I" } : Jvm.MethodName)) ∈ lw_all := lw_g (lw_at lw_m4 182 rfl) rfl
theorem q996 : (Jvm.Cond.code ({ cls := "Samovar", name := "firstNow", desc := "()I" } : Jvm.MethodName) prog_1_method_37_code (3 : Nat) (Option.some Jvm.ClassFile.FieldType.int)) ∈ lw_all := lw_g (lw_at lw_m4 183 rfl) rfl
theorem q997 : (Jvm.Cond.methodLink "SamovarLaw" (77 : Nat) ({ cls := "Samovar", name := "hottest", desc := "(I)I" } : Jvm.MethodName)) ∈ lw_all := lw_g (lw_at lw_m4 184 rfl) rfl
theorem q998 : (Jvm.Cond.instanceMethod ({ cls := "Samovar", name := "hottest", desc := "(I)I" } : Jvm.MethodName)) ∈ lw_all := lw_g (lw_at lw_m4 185 rfl) rfl
theorem q999 : (Jvm.Cond.selects "Samovar" ({ cls := "Samovar", name := "hottest", desc := "(I)I" } : Jvm.MethodName) ({ cls := "Samovar", name := "hottest", desc := "(I)I" } : Jvm.MethodName)) ∈ lw_all := lw_g (lw_at lw_m4 186 rfl) rfl
theorem q1000 : (Jvm.Cond.code ({ cls := "Samovar", name := "hottest", desc := "(I)I" } : Jvm.MethodName) prog_1_method_40_code (2 : Nat) (Option.some Jvm.ClassFile.FieldType.int)) ∈ lw_all := lw_g (lw_at lw_m4 187 rfl) rfl
theorem q1001 : (Jvm.Cond.methodLink "Samovar" (304 : Nat) ({ cls := "Samovar", name := "hottestBy", desc := "(I)I" } : Jvm.MethodName)) ∈ lw_all := lw_g (lw_at lw_m4 188 rfl) rfl
theorem q1002 : (Jvm.Cond.privateMethod ({ cls := "Samovar", name := "hottestBy", desc := "(I)I" } : Jvm.MethodName)) ∈ lw_tbl := lw_at lw_m4 189 rfl
theorem q1003 : (Jvm.Cond.instanceMethod ({ cls := "Samovar", name := "hottestBy", desc := "(I)I" } : Jvm.MethodName)) ∈ lw_all := lw_g (lw_at lw_m4 190 rfl) rfl
theorem q1004 : (Jvm.Cond.code ({ cls := "Samovar", name := "hottestBy", desc := "(I)I" } : Jvm.MethodName) prog_1_method_39_code (4 : Nat) (Option.some Jvm.ClassFile.FieldType.int)) ∈ lw_all := lw_g (lw_at lw_m4 191 rfl) rfl
theorem q1005 : (Jvm.Cond.methodLink "SamovarLaw" (81 : Nat) ({ cls := "Samovar", name := "waited", desc := "(I)I" } : Jvm.MethodName)) ∈ lw_all := lw_g (lw_at lw_m4 192 rfl) rfl
theorem q1006 : (Jvm.Cond.instanceMethod ({ cls := "Samovar", name := "waited", desc := "(I)I" } : Jvm.MethodName)) ∈ lw_all := lw_g (lw_at lw_m4 193 rfl) rfl
theorem q1007 : (Jvm.Cond.selects "Samovar" ({ cls := "Samovar", name := "waited", desc := "(I)I" } : Jvm.MethodName) ({ cls := "Samovar", name := "waited", desc := "(I)I" } : Jvm.MethodName)) ∈ lw_all := lw_g (lw_at lw_m4 194 rfl) rfl
theorem q1008 : (Jvm.Cond.code ({ cls := "Samovar", name := "waited", desc := "(I)I" } : Jvm.MethodName) prog_1_method_41_code (2 : Nat) (Option.some Jvm.ClassFile.FieldType.int)) ∈ lw_all := lw_g (lw_at lw_m4 195 rfl) rfl
theorem q1009 : (Jvm.Cond.methodLink "SamovarLaw" (85 : Nat) ({ cls := "Samovar", name := "thirst", desc := "()I" } : Jvm.MethodName)) ∈ lw_all := lw_g (lw_at lw_m4 196 rfl) rfl
theorem q1010 : (Jvm.Cond.instanceMethod ({ cls := "Samovar", name := "thirst", desc := "()I" } : Jvm.MethodName)) ∈ lw_all := lw_g (lw_at lw_m4 197 rfl) rfl
theorem q1011 : (Jvm.Cond.selects "Samovar" ({ cls := "Samovar", name := "thirst", desc := "()I" } : Jvm.MethodName) ({ cls := "Samovar", name := "thirst", desc := "()I" } : Jvm.MethodName)) ∈ lw_all := lw_g (lw_at lw_m4 198 rfl) rfl
theorem q1012 : (Jvm.Cond.code ({ cls := "Samovar", name := "thirst", desc := "()I" } : Jvm.MethodName) prog_1_method_43_code (1 : Nat) (Option.some Jvm.ClassFile.FieldType.int)) ∈ lw_all := lw_g (lw_at lw_m4 199 rfl) rfl
theorem q1013 : (Jvm.Cond.methodLink "Samovar" (310 : Nat) ({ cls := "Samovar", name := "thirstNow", desc := "()I" } : Jvm.MethodName)) ∈ lw_all := lw_g (lw_at lw_m4 200 rfl) rfl
theorem q1014 : (Jvm.Cond.privateMethod ({ cls := "Samovar", name := "thirstNow", desc := "()I" } : Jvm.MethodName)) ∈ lw_tbl := lw_at lw_m4 201 rfl
theorem q1015 : (Jvm.Cond.instanceMethod ({ cls := "Samovar", name := "thirstNow", desc := "()I" } : Jvm.MethodName)) ∈ lw_all := lw_g (lw_at lw_m4 202 rfl) rfl
theorem q1016 : (Jvm.Cond.code ({ cls := "Samovar", name := "thirstNow", desc := "()I" } : Jvm.MethodName) prog_1_method_42_code (3 : Nat) (Option.some Jvm.ClassFile.FieldType.int)) ∈ lw_all := lw_g (lw_at lw_m4 203 rfl) rfl
theorem q1017 : (Jvm.Cond.methodLink "SamovarLaw" (89 : Nat) ({ cls := "Samovar", name := "better", desc := "(II)I" } : Jvm.MethodName)) ∈ lw_all := lw_g (lw_at lw_m4 204 rfl) rfl
theorem q1018 : (Jvm.Cond.instanceMethod ({ cls := "Samovar", name := "better", desc := "(II)I" } : Jvm.MethodName)) ∈ lw_all := lw_g (lw_at lw_m4 205 rfl) rfl
theorem q1019 : (Jvm.Cond.selects "Samovar" ({ cls := "Samovar", name := "better", desc := "(II)I" } : Jvm.MethodName) ({ cls := "Samovar", name := "better", desc := "(II)I" } : Jvm.MethodName)) ∈ lw_all := lw_g (lw_at lw_m4 206 rfl) rfl
theorem q1020 : (Jvm.Cond.code ({ cls := "Samovar", name := "better", desc := "(II)I" } : Jvm.MethodName) prog_1_method_45_code (3 : Nat) (Option.some Jvm.ClassFile.FieldType.int)) ∈ lw_all := lw_g (lw_at lw_m4 207 rfl) rfl
theorem q1021 : (Jvm.Cond.methodLink "Samovar" (321 : Nat) ({ cls := "Samovar", name := "betterOf", desc := "(LSamovar$Piece;I)I" } : Jvm.MethodName)) ∈ lw_all := lw_g (lw_at lw_m4 208 rfl) rfl
theorem q1022 : (Jvm.Cond.privateMethod ({ cls := "Samovar", name := "betterOf", desc := "(LSamovar$Piece;I)I" } : Jvm.MethodName)) ∈ lw_tbl := lw_at lw_m4 209 rfl
theorem q1023 : (Jvm.Cond.instanceMethod ({ cls := "Samovar", name := "betterOf", desc := "(LSamovar$Piece;I)I" } : Jvm.MethodName)) ∈ lw_all := lw_g (lw_at lw_m4 210 rfl) rfl
theorem q1024 : (Jvm.Cond.codeWith ({ cls := "Samovar", name := "betterOf", desc := "(LSamovar$Piece;I)I" } : Jvm.MethodName) prog_1_method_44_code (8 : Nat) (Option.some Jvm.ClassFile.FieldType.int) [((11 : Nat), (62 : Nat), (70 : Nat), (0 : Nat)), ((70 : Nat), (72 : Nat), (70 : Nat), (0 : Nat))]) ∈ lw_all := lw_g (lw_at lw_m4 211 rfl) rfl
theorem q1025 : (Jvm.Cond.fieldLink "Samovar" (317 : Nat) "Samovar" "FUEL" "[LSamovar$Fuel;") ∈ lw_all := lw_g (lw_at lw_m4 212 rfl) rfl
theorem q1026 : (Jvm.Cond.methodLink "SamovarLaw" (93 : Nat) ({ cls := "Samovar", name := "fill", desc := "(I)I" } : Jvm.MethodName)) ∈ lw_all := lw_g (lw_at lw_m4 213 rfl) rfl
theorem q1027 : (Jvm.Cond.instanceMethod ({ cls := "Samovar", name := "fill", desc := "(I)I" } : Jvm.MethodName)) ∈ lw_all := lw_g (lw_at lw_m4 214 rfl) rfl
theorem q1028 : (Jvm.Cond.selects "Samovar" ({ cls := "Samovar", name := "fill", desc := "(I)I" } : Jvm.MethodName) ({ cls := "Samovar", name := "fill", desc := "(I)I" } : Jvm.MethodName)) ∈ lw_all := lw_g (lw_at lw_m4 215 rfl) rfl
theorem q1029 : (Jvm.Cond.code ({ cls := "Samovar", name := "fill", desc := "(I)I" } : Jvm.MethodName) prog_1_method_47_code (2 : Nat) (Option.some Jvm.ClassFile.FieldType.int)) ∈ lw_all := lw_g (lw_at lw_m4 216 rfl) rfl
theorem q1030 : (Jvm.Cond.methodLink "Samovar" (325 : Nat) ({ cls := "Samovar", name := "fillBy", desc := "(I)I" } : Jvm.MethodName)) ∈ lw_all := lw_g (lw_at lw_m4 217 rfl) rfl
theorem q1031 : (Jvm.Cond.privateMethod ({ cls := "Samovar", name := "fillBy", desc := "(I)I" } : Jvm.MethodName)) ∈ lw_tbl := lw_at lw_m4 218 rfl
theorem q1032 : (Jvm.Cond.instanceMethod ({ cls := "Samovar", name := "fillBy", desc := "(I)I" } : Jvm.MethodName)) ∈ lw_all := lw_g (lw_at lw_m4 219 rfl) rfl
theorem q1033 : (Jvm.Cond.codeWith ({ cls := "Samovar", name := "fillBy", desc := "(I)I" } : Jvm.MethodName) prog_1_method_46_code (7 : Nat) (Option.some Jvm.ClassFile.FieldType.int) [((12 : Nat), (61 : Nat), (71 : Nat), (0 : Nat)), ((71 : Nat), (73 : Nat), (71 : Nat), (0 : Nat))]) ∈ lw_all := lw_g (lw_at lw_m4 220 rfl) rfl
theorem q1034 : (Jvm.Cond.methodLink "SamovarLaw" (97 : Nat) ({ cls := "Samovar", name := "come", desc := "(II)I" } : Jvm.MethodName)) ∈ lw_all := lw_g (lw_at lw_m4 221 rfl) rfl
theorem q1035 : (Jvm.Cond.instanceMethod ({ cls := "Samovar", name := "come", desc := "(II)I" } : Jvm.MethodName)) ∈ lw_all := lw_g (lw_at lw_m4 222 rfl) rfl
theorem q1036 : (Jvm.Cond.selects "Samovar" ({ cls := "Samovar", name := "come", desc := "(II)I" } : Jvm.MethodName) ({ cls := "Samovar", name := "come", desc := "(II)I" } : Jvm.MethodName)) ∈ lw_all := lw_g (lw_at lw_m4 223 rfl) rfl
theorem q1037 : (Jvm.Cond.code ({ cls := "Samovar", name := "come", desc := "(II)I" } : Jvm.MethodName) prog_1_method_49_code (3 : Nat) (Option.some Jvm.ClassFile.FieldType.int)) ∈ lw_all := lw_g (lw_at lw_m4 224 rfl) rfl
theorem q1038 : (Jvm.Cond.methodLink "Samovar" (331 : Nat) ({ cls := "Samovar", name := "comeOf", desc := "(LSamovar$Guest;I)I" } : Jvm.MethodName)) ∈ lw_all := lw_g (lw_at lw_m4 225 rfl) rfl
theorem q1039 : (Jvm.Cond.privateMethod ({ cls := "Samovar", name := "comeOf", desc := "(LSamovar$Guest;I)I" } : Jvm.MethodName)) ∈ lw_tbl := lw_at lw_m4 226 rfl
theorem q1040 : (Jvm.Cond.instanceMethod ({ cls := "Samovar", name := "comeOf", desc := "(LSamovar$Guest;I)I" } : Jvm.MethodName)) ∈ lw_all := lw_g (lw_at lw_m4 227 rfl) rfl
theorem q1041 : (Jvm.Cond.codeWith ({ cls := "Samovar", name := "comeOf", desc := "(LSamovar$Guest;I)I" } : Jvm.MethodName) prog_1_method_48_code (7 : Nat) (Option.some Jvm.ClassFile.FieldType.int) [((11 : Nat), (66 : Nat), (74 : Nat), (0 : Nat)), ((74 : Nat), (76 : Nat), (74 : Nat), (0 : Nat))]) ∈ lw_all := lw_g (lw_at lw_m4 228 rfl) rfl
theorem q1042 : (Jvm.Cond.methodLink "SamovarLaw" (101 : Nat) ({ cls := "Samovar", name := "spare", desc := "(I)I" } : Jvm.MethodName)) ∈ lw_all := lw_g (lw_at lw_m4 229 rfl) rfl
theorem q1043 : (Jvm.Cond.instanceMethod ({ cls := "Samovar", name := "spare", desc := "(I)I" } : Jvm.MethodName)) ∈ lw_all := lw_g (lw_at lw_m4 230 rfl) rfl
theorem q1044 : (Jvm.Cond.selects "Samovar" ({ cls := "Samovar", name := "spare", desc := "(I)I" } : Jvm.MethodName) ({ cls := "Samovar", name := "spare", desc := "(I)I" } : Jvm.MethodName)) ∈ lw_all := lw_g (lw_at lw_m4 231 rfl) rfl
theorem q1045 : (Jvm.Cond.code ({ cls := "Samovar", name := "spare", desc := "(I)I" } : Jvm.MethodName) prog_1_method_52_code (2 : Nat) (Option.some Jvm.ClassFile.FieldType.int)) ∈ lw_all := lw_g (lw_at lw_m4 232 rfl) rfl
theorem q1046 : (Jvm.Cond.constantLong "Samovar" (338 : Nat) (-1 : Int64)) ∈ lw_all := lw_g (lw_at lw_m4 233 rfl) rfl
theorem q1047 : (Jvm.Cond.methodLink "Samovar" (340 : Nat) ({ cls := "Samovar", name := "spareBy", desc := "(I)I" } : Jvm.MethodName)) ∈ lw_all := lw_g (lw_at lw_m4 234 rfl) rfl
theorem q1048 : (Jvm.Cond.privateMethod ({ cls := "Samovar", name := "spareBy", desc := "(I)I" } : Jvm.MethodName)) ∈ lw_tbl := lw_at lw_m4 235 rfl
theorem q1049 : (Jvm.Cond.instanceMethod ({ cls := "Samovar", name := "spareBy", desc := "(I)I" } : Jvm.MethodName)) ∈ lw_all := lw_g (lw_at lw_m4 236 rfl) rfl
theorem q1050 : (Jvm.Cond.code ({ cls := "Samovar", name := "spareBy", desc := "(I)I" } : Jvm.MethodName) prog_1_method_51_code (5 : Nat) (Option.some Jvm.ClassFile.FieldType.int)) ∈ lw_all := lw_g (lw_at lw_m4 237 rfl) rfl
theorem q1051 : (Jvm.Cond.methodLink "Samovar" (335 : Nat) ({ cls := "Samovar", name := "isSpared", desc := "(I)Z" } : Jvm.MethodName)) ∈ lw_all := lw_g (lw_at lw_m4 238 rfl) rfl
theorem q1052 : (Jvm.Cond.privateMethod ({ cls := "Samovar", name := "isSpared", desc := "(I)Z" } : Jvm.MethodName)) ∈ lw_tbl := lw_at lw_m4 239 rfl
theorem q1053 : (Jvm.Cond.instanceMethod ({ cls := "Samovar", name := "isSpared", desc := "(I)Z" } : Jvm.MethodName)) ∈ lw_all := lw_g (lw_at lw_m5 0 rfl) rfl
theorem q1054 : (Jvm.Cond.codeWith ({ cls := "Samovar", name := "isSpared", desc := "(I)Z" } : Jvm.MethodName) prog_1_method_50_code (4 : Nat) (Option.some Jvm.ClassFile.FieldType.boolean) [((5 : Nat), (23 : Nat), (30 : Nat), (0 : Nat))]) ∈ lw_all := lw_g (lw_at lw_m5 1 rfl) rfl
theorem q1055 : (Jvm.Cond.methodLink "SamovarLaw" (105 : Nat) ({ cls := "Samovar", name := "seen", desc := "(II)I" } : Jvm.MethodName)) ∈ lw_all := lw_g (lw_at lw_m5 2 rfl) rfl
theorem q1056 : (Jvm.Cond.instanceMethod ({ cls := "Samovar", name := "seen", desc := "(II)I" } : Jvm.MethodName)) ∈ lw_all := lw_g (lw_at lw_m5 3 rfl) rfl
theorem q1057 : (Jvm.Cond.selects "Samovar" ({ cls := "Samovar", name := "seen", desc := "(II)I" } : Jvm.MethodName) ({ cls := "Samovar", name := "seen", desc := "(II)I" } : Jvm.MethodName)) ∈ lw_all := lw_g (lw_at lw_m5 4 rfl) rfl
theorem q1058 : (Jvm.Cond.code ({ cls := "Samovar", name := "seen", desc := "(II)I" } : Jvm.MethodName) prog_1_method_53_code (3 : Nat) (Option.some Jvm.ClassFile.FieldType.int)) ∈ lw_all := lw_g (lw_at lw_m5 5 rfl) rfl
theorem q1059 : (Jvm.Cond.methodLink "SamovarLaw" (109 : Nat) ({ cls := "Samovar", name := "forget", desc := "()I" } : Jvm.MethodName)) ∈ lw_all := lw_g (lw_at lw_m5 6 rfl) rfl
theorem q1060 : (Jvm.Cond.instanceMethod ({ cls := "Samovar", name := "forget", desc := "()I" } : Jvm.MethodName)) ∈ lw_all := lw_g (lw_at lw_m5 7 rfl) rfl
theorem q1061 : (Jvm.Cond.selects "Samovar" ({ cls := "Samovar", name := "forget", desc := "()I" } : Jvm.MethodName) ({ cls := "Samovar", name := "forget", desc := "()I" } : Jvm.MethodName)) ∈ lw_all := lw_g (lw_at lw_m5 8 rfl) rfl
theorem q1062 : (Jvm.Cond.code ({ cls := "Samovar", name := "forget", desc := "()I" } : Jvm.MethodName) prog_1_method_54_code (2 : Nat) (Option.some Jvm.ClassFile.FieldType.int)) ∈ lw_all := lw_g (lw_at lw_m5 9 rfl) rfl
theorem q1063 : (Jvm.Cond.methodLink "SamovarLaw" (113 : Nat) ({ cls := "Samovar", name := "never", desc := "()I" } : Jvm.MethodName)) ∈ lw_all := lw_g (lw_at lw_m5 10 rfl) rfl
theorem q1064 : (Jvm.Cond.instanceMethod ({ cls := "Samovar", name := "never", desc := "()I" } : Jvm.MethodName)) ∈ lw_all := lw_g (lw_at lw_m5 11 rfl) rfl
theorem q1065 : (Jvm.Cond.selects "Samovar" ({ cls := "Samovar", name := "never", desc := "()I" } : Jvm.MethodName) ({ cls := "Samovar", name := "never", desc := "()I" } : Jvm.MethodName)) ∈ lw_all := lw_g (lw_at lw_m5 12 rfl) rfl
theorem q1066 : (Jvm.Cond.code ({ cls := "Samovar", name := "never", desc := "()I" } : Jvm.MethodName) prog_1_method_57_code (1 : Nat) (Option.some Jvm.ClassFile.FieldType.int)) ∈ lw_all := lw_g (lw_at lw_m5 13 rfl) rfl
theorem q1067 : (Jvm.Cond.methodLink "Samovar" (346 : Nat) ({ cls := "Samovar", name := "neverNow", desc := "()I" } : Jvm.MethodName)) ∈ lw_all := lw_g (lw_at lw_m5 14 rfl) rfl
theorem q1068 : (Jvm.Cond.privateMethod ({ cls := "Samovar", name := "neverNow", desc := "()I" } : Jvm.MethodName)) ∈ lw_tbl := lw_at lw_m5 15 rfl
theorem q1069 : (Jvm.Cond.instanceMethod ({ cls := "Samovar", name := "neverNow", desc := "()I" } : Jvm.MethodName)) ∈ lw_all := lw_g (lw_at lw_m5 16 rfl) rfl
theorem q1070 : (Jvm.Cond.codeWith ({ cls := "Samovar", name := "neverNow", desc := "()I" } : Jvm.MethodName) prog_1_method_56_code (4 : Nat) (Option.some Jvm.ClassFile.FieldType.int) [((2 : Nat), (45 : Nat), (53 : Nat), (0 : Nat))]) ∈ lw_all := lw_g (lw_at lw_m5 17 rfl) rfl
theorem q1071 : (Jvm.Cond.methodLink "Samovar" (343 : Nat) ({ cls := "Samovar", name := "isSeen", desc := "()Z" } : Jvm.MethodName)) ∈ lw_all := lw_g (lw_at lw_m5 18 rfl) rfl
theorem q1072 : (Jvm.Cond.privateMethod ({ cls := "Samovar", name := "isSeen", desc := "()Z" } : Jvm.MethodName)) ∈ lw_tbl := lw_at lw_m5 19 rfl
theorem q1073 : (Jvm.Cond.instanceMethod ({ cls := "Samovar", name := "isSeen", desc := "()Z" } : Jvm.MethodName)) ∈ lw_all := lw_g (lw_at lw_m5 20 rfl) rfl
theorem q1074 : (Jvm.Cond.code ({ cls := "Samovar", name := "isSeen", desc := "()Z" } : Jvm.MethodName) prog_1_method_55_code (3 : Nat) (Option.some Jvm.ClassFile.FieldType.boolean)) ∈ lw_all := lw_g (lw_at lw_m5 21 rfl) rfl
theorem q1075 : (Jvm.Cond.methodLink "SamovarLaw" (117 : Nat) ({ cls := "Samovar", name := "waters", desc := "()I" } : Jvm.MethodName)) ∈ lw_all := lw_g (lw_at lw_m5 22 rfl) rfl
theorem q1076 : (Jvm.Cond.instanceMethod ({ cls := "Samovar", name := "waters", desc := "()I" } : Jvm.MethodName)) ∈ lw_all := lw_g (lw_at lw_m5 23 rfl) rfl
theorem q1077 : (Jvm.Cond.selects "Samovar" ({ cls := "Samovar", name := "waters", desc := "()I" } : Jvm.MethodName) ({ cls := "Samovar", name := "waters", desc := "()I" } : Jvm.MethodName)) ∈ lw_all := lw_g (lw_at lw_m5 24 rfl) rfl
theorem q1078 : (Jvm.Cond.code ({ cls := "Samovar", name := "waters", desc := "()I" } : Jvm.MethodName) prog_1_method_59_code (1 : Nat) (Option.some Jvm.ClassFile.FieldType.int)) ∈ lw_all := lw_g (lw_at lw_m5 25 rfl) rfl
theorem q1079 : (Jvm.Cond.methodLink "Samovar" (349 : Nat) ({ cls := "Samovar", name := "watersNow", desc := "()I" } : Jvm.MethodName)) ∈ lw_all := lw_g (lw_at lw_m5 26 rfl) rfl
theorem q1080 : (Jvm.Cond.privateMethod ({ cls := "Samovar", name := "watersNow", desc := "()I" } : Jvm.MethodName)) ∈ lw_tbl := lw_at lw_m5 27 rfl
theorem q1081 : (Jvm.Cond.instanceMethod ({ cls := "Samovar", name := "watersNow", desc := "()I" } : Jvm.MethodName)) ∈ lw_all := lw_g (lw_at lw_m5 28 rfl) rfl
theorem q1082 : (Jvm.Cond.codeWith ({ cls := "Samovar", name := "watersNow", desc := "()I" } : Jvm.MethodName) prog_1_method_58_code (6 : Nat) (Option.some Jvm.ClassFile.FieldType.int) [((9 : Nat), (91 : Nat), (101 : Nat), (0 : Nat)), ((101 : Nat), (103 : Nat), (101 : Nat), (0 : Nat))]) ∈ lw_all := lw_g (lw_at lw_m5 29 rfl) rfl
theorem q1083 : (Jvm.Cond.methodLink "SamovarLaw" (121 : Nat) ({ cls := "Samovar", name := "kind", desc := "(I)I" } : Jvm.MethodName)) ∈ lw_all := lw_g (lw_at lw_m5 30 rfl) rfl
theorem q1084 : (Jvm.Cond.instanceMethod ({ cls := "Samovar", name := "kind", desc := "(I)I" } : Jvm.MethodName)) ∈ lw_all := lw_g (lw_at lw_m5 31 rfl) rfl
theorem q1085 : (Jvm.Cond.selects "Samovar" ({ cls := "Samovar", name := "kind", desc := "(I)I" } : Jvm.MethodName) ({ cls := "Samovar", name := "kind", desc := "(I)I" } : Jvm.MethodName)) ∈ lw_all := lw_g (lw_at lw_m5 32 rfl) rfl
theorem q1086 : (Jvm.Cond.code ({ cls := "Samovar", name := "kind", desc := "(I)I" } : Jvm.MethodName) prog_1_method_61_code (2 : Nat) (Option.some Jvm.ClassFile.FieldType.int)) ∈ lw_all := lw_g (lw_at lw_m5 33 rfl) rfl
theorem q1087 : (Jvm.Cond.methodLink "Samovar" (352 : Nat) ({ cls := "Samovar", name := "kindOf", desc := "(LSamovar$Piece;)I" } : Jvm.MethodName)) ∈ lw_all := lw_g (lw_at lw_m5 34 rfl) rfl
theorem q1088 : (Jvm.Cond.privateMethod ({ cls := "Samovar", name := "kindOf", desc := "(LSamovar$Piece;)I" } : Jvm.MethodName)) ∈ lw_tbl := lw_at lw_m5 35 rfl
theorem q1089 : (Jvm.Cond.instanceMethod ({ cls := "Samovar", name := "kindOf", desc := "(LSamovar$Piece;)I" } : Jvm.MethodName)) ∈ lw_all := lw_g (lw_at lw_m5 36 rfl) rfl
theorem q1090 : (Jvm.Cond.codeWith ({ cls := "Samovar", name := "kindOf", desc := "(LSamovar$Piece;)I" } : Jvm.MethodName) prog_1_method_60_code (6 : Nat) (Option.some Jvm.ClassFile.FieldType.int) [((7 : Nat), (50 : Nat), (58 : Nat), (0 : Nat)), ((58 : Nat), (60 : Nat), (58 : Nat), (0 : Nat))]) ∈ lw_all := lw_g (lw_at lw_m5 37 rfl) rfl
theorem q1091 : (Jvm.Cond.methodLink "SamovarLaw" (125 : Nat) ({ cls := "Samovar", name := "ask", desc := "()I" } : Jvm.MethodName)) ∈ lw_all := lw_g (lw_at lw_m5 38 rfl) rfl
theorem q1092 : (Jvm.Cond.instanceMethod ({ cls := "Samovar", name := "ask", desc := "()I" } : Jvm.MethodName)) ∈ lw_all := lw_g (lw_at lw_m5 39 rfl) rfl
theorem q1093 : (Jvm.Cond.selects "Samovar" ({ cls := "Samovar", name := "ask", desc := "()I" } : Jvm.MethodName) ({ cls := "Samovar", name := "ask", desc := "()I" } : Jvm.MethodName)) ∈ lw_all := lw_g (lw_at lw_m5 40 rfl) rfl
theorem q1094 : (Jvm.Cond.code ({ cls := "Samovar", name := "ask", desc := "()I" } : Jvm.MethodName) prog_1_method_64_code (1 : Nat) (Option.some Jvm.ClassFile.FieldType.int)) ∈ lw_all := lw_g (lw_at lw_m5 41 rfl) rfl
theorem q1095 : (Jvm.Cond.methodLink "Samovar" (359 : Nat) ({ cls := "Samovar", name := "askNow", desc := "()I" } : Jvm.MethodName)) ∈ lw_all := lw_g (lw_at lw_m5 42 rfl) rfl
theorem q1096 : (Jvm.Cond.privateMethod ({ cls := "Samovar", name := "askNow", desc := "()I" } : Jvm.MethodName)) ∈ lw_tbl := lw_at lw_m5 43 rfl
theorem q1097 : (Jvm.Cond.instanceMethod ({ cls := "Samovar", name := "askNow", desc := "()I" } : Jvm.MethodName)) ∈ lw_all := lw_g (lw_at lw_m5 44 rfl) rfl
theorem q1098 : (Jvm.Cond.code ({ cls := "Samovar", name := "askNow", desc := "()I" } : Jvm.MethodName) prog_1_method_63_code (4 : Nat) (Option.some Jvm.ClassFile.FieldType.int)) ∈ lw_all := lw_g (lw_at lw_m5 45 rfl) rfl
theorem q1099 : (Jvm.Cond.methodLink "Samovar" (356 : Nat) ({ cls := "Samovar", name := "alike", desc := "(II)I" } : Jvm.MethodName)) ∈ lw_all := lw_g (lw_at lw_m5 46 rfl) rfl
theorem q1100 : (Jvm.Cond.privateMethod ({ cls := "Samovar", name := "alike", desc := "(II)I" } : Jvm.MethodName)) ∈ lw_tbl := lw_at lw_m5 47 rfl
theorem q1101 : (Jvm.Cond.instanceMethod ({ cls := "Samovar", name := "alike", desc := "(II)I" } : Jvm.MethodName)) ∈ lw_all := lw_g (lw_at lw_m5 48 rfl) rfl
theorem q1102 : (Jvm.Cond.code ({ cls := "Samovar", name := "alike", desc := "(II)I" } : Jvm.MethodName) prog_1_method_62_code (6 : Nat) (Option.some Jvm.ClassFile.FieldType.int)) ∈ lw_all := lw_g (lw_at lw_m5 49 rfl) rfl
theorem q1103 : (Jvm.Cond.methodLink "SamovarLaw" (129 : Nat) ({ cls := "Samovar", name := "chance", desc := "(III)J" } : Jvm.MethodName)) ∈ lw_all := lw_g (lw_at lw_m5 50 rfl) rfl
theorem q1104 : (Jvm.Cond.instanceMethod ({ cls := "Samovar", name := "chance", desc := "(III)J" } : Jvm.MethodName)) ∈ lw_all := lw_g (lw_at lw_m5 51 rfl) rfl
theorem q1105 : (Jvm.Cond.selects "Samovar" ({ cls := "Samovar", name := "chance", desc := "(III)J" } : Jvm.MethodName) ({ cls := "Samovar", name := "chance", desc := "(III)J" } : Jvm.MethodName)) ∈ lw_all := lw_g (lw_at lw_m5 52 rfl) rfl
theorem q1106 : (Jvm.Cond.code ({ cls := "Samovar", name := "chance", desc := "(III)J" } : Jvm.MethodName) prog_1_method_68_code (4 : Nat) (Option.some Jvm.ClassFile.FieldType.long)) ∈ lw_all := lw_g (lw_at lw_m5 53 rfl) rfl
theorem q1107 : (Jvm.Cond.constantLong "Samovar" (370 : Nat) (16 : Int64)) ∈ lw_all := lw_g (lw_at lw_m5 54 rfl) rfl
theorem q1108 : (Jvm.Cond.methodLink "Samovar" (372 : Nat) ({ cls := "Samovar", name := "chanceOf", desc := "(III)J" } : Jvm.MethodName)) ∈ lw_all := lw_g (lw_at lw_m5 55 rfl) rfl
theorem q1109 : (Jvm.Cond.privateMethod ({ cls := "Samovar", name := "chanceOf", desc := "(III)J" } : Jvm.MethodName)) ∈ lw_tbl := lw_at lw_m5 56 rfl
theorem q1110 : (Jvm.Cond.instanceMethod ({ cls := "Samovar", name := "chanceOf", desc := "(III)J" } : Jvm.MethodName)) ∈ lw_all := lw_g (lw_at lw_m5 57 rfl) rfl
theorem q1111 : (Jvm.Cond.codeWith ({ cls := "Samovar", name := "chanceOf", desc := "(III)J" } : Jvm.MethodName) prog_1_method_67_code (11 : Nat) (Option.some Jvm.ClassFile.FieldType.long) [((12 : Nat), (119 : Nat), (127 : Nat), (0 : Nat)), ((127 : Nat), (129 : Nat), (127 : Nat), (0 : Nat))]) ∈ lw_all := lw_g (lw_at lw_m5 58 rfl) rfl
theorem q1112 : (Jvm.Cond.methodLink "Samovar" (366 : Nat) ({ cls := "Samovar", name := "part", desc := "(JJI)J" } : Jvm.MethodName)) ∈ lw_all := lw_g (lw_at lw_m5 59 rfl) rfl
theorem q1113 : (Jvm.Cond.static ({ cls := "Samovar", name := "part", desc := "(JJI)J" } : Jvm.MethodName)) ∈ lw_all := lw_g (lw_at lw_m5 60 rfl) rfl
theorem q1114 : (Jvm.Cond.code ({ cls := "Samovar", name := "part", desc := "(JJI)J" } : Jvm.MethodName) prog_1_method_66_code (5 : Nat) (Option.some Jvm.ClassFile.FieldType.long)) ∈ lw_all := lw_g (lw_at lw_m5 61 rfl) rfl
theorem q1115 : (Jvm.Cond.methodLink "Samovar" (362 : Nat) ({ cls := "Samovar", name := "divisor", desc := "(JJ)J" } : Jvm.MethodName)) ∈ lw_all := lw_g (lw_at lw_m5 62 rfl) rfl
theorem q1116 : (Jvm.Cond.static ({ cls := "Samovar", name := "divisor", desc := "(JJ)J" } : Jvm.MethodName)) ∈ lw_all := lw_g (lw_at lw_m5 63 rfl) rfl
theorem q1117 : (Jvm.Cond.code ({ cls := "Samovar", name := "divisor", desc := "(JJ)J" } : Jvm.MethodName) prog_1_method_65_code (4 : Nat) (Option.some Jvm.ClassFile.FieldType.long)) ∈ lw_all := lw_g (lw_at lw_m5 64 rfl) rfl
theorem q1118 : (Jvm.Cond.methodLink "Samovar" (376 : Nat) ({ cls := "Samovar", name := "no", desc := "(I)J" } : Jvm.MethodName)) ∈ lw_all := lw_g (lw_at lw_m5 65 rfl) rfl
theorem q1119 : (Jvm.Cond.static ({ cls := "Samovar", name := "no", desc := "(I)J" } : Jvm.MethodName)) ∈ lw_all := lw_g (lw_at lw_m5 66 rfl) rfl
theorem q1120 : (Jvm.Cond.code ({ cls := "Samovar", name := "no", desc := "(I)J" } : Jvm.MethodName) prog_1_method_3_code (1 : Nat) (Option.some Jvm.ClassFile.FieldType.long)) ∈ lw_all := lw_g (lw_at lw_m5 67 rfl) rfl
theorem q1121 : (Jvm.Cond.constantLong "Samovar" (88 : Nat) (-9223372036854775808 : Int64)) ∈ lw_all := lw_g (lw_at lw_m5 68 rfl) rfl
theorem q1122 : (Jvm.Cond.methodLink "SamovarLaw" (134 : Nat) ({ cls := "Samovar", name := "evenings", desc := "(III)I" } : Jvm.MethodName)) ∈ lw_all := lw_g (lw_at lw_m5 69 rfl) rfl
theorem q1123 : (Jvm.Cond.instanceMethod ({ cls := "Samovar", name := "evenings", desc := "(III)I" } : Jvm.MethodName)) ∈ lw_all := lw_g (lw_at lw_m5 70 rfl) rfl
theorem q1124 : (Jvm.Cond.selects "Samovar" ({ cls := "Samovar", name := "evenings", desc := "(III)I" } : Jvm.MethodName) ({ cls := "Samovar", name := "evenings", desc := "(III)I" } : Jvm.MethodName)) ∈ lw_all := lw_g (lw_at lw_m5 71 rfl) rfl
theorem q1125 : (Jvm.Cond.code ({ cls := "Samovar", name := "evenings", desc := "(III)I" } : Jvm.MethodName) prog_1_method_72_code (4 : Nat) (Option.some Jvm.ClassFile.FieldType.int)) ∈ lw_all := lw_g (lw_at lw_m5 72 rfl) rfl
theorem q1126 : (Jvm.Cond.constantLong "Samovar" (398 : Nat) (8 : Int64)) ∈ lw_all := lw_g (lw_at lw_m5 73 rfl) rfl
theorem q1127 : (Jvm.Cond.methodLink "Samovar" (400 : Nat) ({ cls := "Samovar", name := "eveningsOf", desc := "(III)I" } : Jvm.MethodName)) ∈ lw_all := lw_g (lw_at lw_m5 74 rfl) rfl
theorem q1128 : (Jvm.Cond.privateMethod ({ cls := "Samovar", name := "eveningsOf", desc := "(III)I" } : Jvm.MethodName)) ∈ lw_tbl := lw_at lw_m5 75 rfl
theorem q1129 : (Jvm.Cond.instanceMethod ({ cls := "Samovar", name := "eveningsOf", desc := "(III)I" } : Jvm.MethodName)) ∈ lw_all := lw_g (lw_at lw_m5 76 rfl) rfl
theorem q1130 : (Jvm.Cond.codeWith ({ cls := "Samovar", name := "eveningsOf", desc := "(III)I" } : Jvm.MethodName) prog_1_method_71_code (6 : Nat) (Option.some Jvm.ClassFile.FieldType.int) [((49 : Nat), (71 : Nat), (85 : Nat), (0 : Nat)), ((85 : Nat), (87 : Nat), (85 : Nat), (0 : Nat))]) ∈ lw_all := lw_g (lw_at lw_m5 77 rfl) rfl
theorem q1131 : (Jvm.Cond.methodLink "Samovar" (394 : Nat) ({ cls := "Samovar", name := "stranger", desc := "(I)LSamovar$Guest;" } : Jvm.MethodName)) ∈ lw_all := lw_g (lw_at lw_m5 78 rfl) rfl
theorem q1132 : (Jvm.Cond.privateMethod ({ cls := "Samovar", name := "stranger", desc := "(I)LSamovar$Guest;" } : Jvm.MethodName)) ∈ lw_tbl := lw_at lw_m5 79 rfl
theorem q1133 : (Jvm.Cond.instanceMethod ({ cls := "Samovar", name := "stranger", desc := "(I)LSamovar$Guest;" } : Jvm.MethodName)) ∈ lw_all := lw_g (lw_at lw_m5 80 rfl) rfl
theorem q1134 : (Jvm.Cond.code ({ cls := "Samovar", name := "stranger", desc := "(I)LSamovar$Guest;" } : Jvm.MethodName) prog_1_method_70_code (3 : Nat) (Option.some (Jvm.ClassFile.FieldType.object "Samovar$Guest"))) ∈ lw_all := lw_g (lw_at lw_m5 81 rfl) rfl
theorem q1135 : (Jvm.Cond.fieldLink "Samovar" (384 : Nat) "Samovar" "TASTE" "[LSamovar$Taste;") ∈ lw_all := lw_g (lw_at lw_m5 82 rfl) rfl
theorem q1136 : (Jvm.Cond.methodLink "Samovar" (388 : Nat) ({ cls := "Samovar$Guest", name := "<init>", desc := "(ILSamovar$Taste;I)V" } : Jvm.MethodName)) ∈ lw_all := lw_g (lw_at lw_m5 83 rfl) rfl
theorem q1137 : (Jvm.Cond.methodLink "Samovar" (391 : Nat) ({ cls := "Samovar", name := "lot", desc := "(I)I" } : Jvm.MethodName)) ∈ lw_all := lw_g (lw_at lw_m5 84 rfl) rfl
theorem q1138 : (Jvm.Cond.privateMethod ({ cls := "Samovar", name := "lot", desc := "(I)I" } : Jvm.MethodName)) ∈ lw_tbl := lw_at lw_m5 85 rfl
theorem q1139 : (Jvm.Cond.instanceMethod ({ cls := "Samovar", name := "lot", desc := "(I)I" } : Jvm.MethodName)) ∈ lw_all := lw_g (lw_at lw_m5 86 rfl) rfl
theorem q1140 : (Jvm.Cond.code ({ cls := "Samovar", name := "lot", desc := "(I)I" } : Jvm.MethodName) prog_1_method_69_code (2 : Nat) (Option.some Jvm.ClassFile.FieldType.int)) ∈ lw_all := lw_g (lw_at lw_m5 87 rfl) rfl
theorem q1141 : (Jvm.Cond.constant "Samovar" (380 : Nat) (1103515245 : Int32)) ∈ lw_all := lw_g (lw_at lw_m5 88 rfl) rfl
theorem q1142 : (Jvm.Cond.methodLink "SamovarLaw" (138 : Nat) ({ cls := "Samovar", name := "sheet", desc := "(III)I" } : Jvm.MethodName)) ∈ lw_all := lw_g (lw_at lw_m5 89 rfl) rfl
theorem q1143 : (Jvm.Cond.instanceMethod ({ cls := "Samovar", name := "sheet", desc := "(III)I" } : Jvm.MethodName)) ∈ lw_all := lw_g (lw_at lw_m5 90 rfl) rfl
theorem q1144 : (Jvm.Cond.selects "Samovar" ({ cls := "Samovar", name := "sheet", desc := "(III)I" } : Jvm.MethodName) ({ cls := "Samovar", name := "sheet", desc := "(III)I" } : Jvm.MethodName)) ∈ lw_all := lw_g (lw_at lw_m5 91 rfl) rfl
theorem q1145 : (Jvm.Cond.codeWith ({ cls := "Samovar", name := "sheet", desc := "(III)I" } : Jvm.MethodName) prog_1_method_75_code (5 : Nat) (Option.some Jvm.ClassFile.FieldType.int) [((28 : Nat), (43 : Nat), (44 : Nat), (409 : Nat))]) ∈ lw_all := lw_g (lw_at lw_m5 92 rfl) rfl
theorem q1146 : (Jvm.Cond.classLink "Samovar" (409 : Nat) "java/lang/NegativeArraySizeException") ∈ lw_all := lw_g (lw_at lw_m5 93 rfl) rfl
theorem q1147 : (Jvm.Cond.instantiable "java/lang/NegativeArraySizeException" (6 : Nat)) ∈ lw_all := lw_g (lw_at lw_m5 94 rfl) rfl
theorem q1148 : (Jvm.Cond.instanceMethod ({ cls := "java/lang/NegativeArraySizeException", name := "<init>", desc := "(Ljava/lang/String;)V" } : Jvm.MethodName)) ∈ lw_all := lw_g (lw_at lw_m5 95 rfl) rfl
theorem q1149 : (Jvm.Cond.code ({ cls := "java/lang/NegativeArraySizeException", name := "<init>", desc := "(Ljava/lang/String;)V" } : Jvm.MethodName) prog_27_method_2_code (2 : Nat) (Option.none : Option Jvm.ClassFile.FieldType)) ∈ lw_all := lw_g (lw_at lw_m5 96 rfl) rfl
theorem q1150 : (Jvm.Cond.methodLink "java/lang/NegativeArraySizeException" (7 : Nat) ({ cls := "java/lang/RuntimeException", name := "<init>", desc := "(Ljava/lang/String;)V" } : Jvm.MethodName)) ∈ lw_all := lw_g (lw_at lw_m5 97 rfl) rfl
theorem q1151 : (Jvm.Cond.instanceMethod ({ cls := "java/lang/RuntimeException", name := "<init>", desc := "(Ljava/lang/String;)V" } : Jvm.MethodName)) ∈ lw_all := lw_g (lw_at lw_m5 98 rfl) rfl
theorem q1152 : (Jvm.Cond.code ({ cls := "java/lang/RuntimeException", name := "<init>", desc := "(Ljava/lang/String;)V" } : Jvm.MethodName) prog_28_method_2_code (2 : Nat) (Option.none : Option Jvm.ClassFile.FieldType)) ∈ lw_all := lw_g (lw_at lw_m5 99 rfl) rfl
theorem q1153 : (Jvm.Cond.methodLink "java/lang/RuntimeException" (7 : Nat) ({ cls := "java/lang/Exception", name := "<init>", desc := "(Ljava/lang/String;)V" } : Jvm.MethodName)) ∈ lw_all := lw_g (lw_at lw_m5 100 rfl) rfl
theorem q1154 : (Jvm.Cond.instanceMethod ({ cls := "java/lang/Exception", name := "<init>", desc := "(Ljava/lang/String;)V" } : Jvm.MethodName)) ∈ lw_all := lw_g (lw_at lw_m5 101 rfl) rfl
theorem q1155 : (Jvm.Cond.code ({ cls := "java/lang/Exception", name := "<init>", desc := "(Ljava/lang/String;)V" } : Jvm.MethodName) prog_23_method_2_code (2 : Nat) (Option.none : Option Jvm.ClassFile.FieldType)) ∈ lw_all := lw_g (lw_at lw_m5 102 rfl) rfl
theorem q1156 : (Jvm.Cond.methodLink "java/lang/Exception" (7 : Nat) ({ cls := "java/lang/Throwable", name := "<init>", desc := "(Ljava/lang/String;)V" } : Jvm.MethodName)) ∈ lw_all := lw_g (lw_at lw_m5 103 rfl) rfl
theorem q1157 : (Jvm.Cond.instanceMethod ({ cls := "java/lang/Throwable", name := "<init>", desc := "(Ljava/lang/String;)V" } : Jvm.MethodName)) ∈ lw_all := lw_g (lw_at lw_m5 104 rfl) rfl
theorem q1158 : (Jvm.Cond.code ({ cls := "java/lang/Throwable", name := "<init>", desc := "(Ljava/lang/String;)V" } : Jvm.MethodName) prog_33_method_2_code (2 : Nat) (Option.none : Option Jvm.ClassFile.FieldType)) ∈ lw_all := lw_g (lw_at lw_m5 105 rfl) rfl
theorem q1159 : (Jvm.Cond.lays "java/lang/NegativeArraySizeException" "java/lang/Throwable" "backtrace" "Ljava/lang/Object;") ∈ lw_all := lw_g (lw_at lw_m5 106 rfl) rfl
theorem q1160 : (Jvm.Cond.lays "java/lang/NegativeArraySizeException" "java/lang/Throwable" "detailMessage" "Ljava/lang/String;") ∈ lw_all := lw_g (lw_at lw_m5 107 rfl) rfl
theorem q1161 : (Jvm.Cond.lays "java/lang/NegativeArraySizeException" "java/lang/Throwable" "cause" "Ljava/lang/Throwable;") ∈ lw_all := lw_g (lw_at lw_m5 108 rfl) rfl
theorem q1162 : (Jvm.Cond.lays "java/lang/NegativeArraySizeException" "java/lang/Throwable" "stackTrace" "[Ljava/lang/StackTraceElement;") ∈ lw_all := lw_g (lw_at lw_m5 109 rfl) rfl
theorem q1163 : (Jvm.Cond.lays "java/lang/NegativeArraySizeException" "java/lang/Throwable" "depth" "I") ∈ lw_all := lw_g (lw_at lw_m5 110 rfl) rfl
theorem q1164 : (Jvm.Cond.lays "java/lang/NegativeArraySizeException" "java/lang/Throwable" "suppressedExceptions" "Ljava/util/List;") ∈ lw_all := lw_g (lw_at lw_m5 111 rfl) rfl
theorem q1165 : (Jvm.Cond.superclass "java/lang/NegativeArraySizeException" "java/lang/RuntimeException") ∈ lw_all := lw_g (lw_at lw_m5 112 rfl) rfl
theorem q1166 : (Jvm.Cond.castable "java/lang/NegativeArraySizeException" "java/lang/NegativeArraySizeException") ∈ lw_tbl := lw_at lw_m5 113 rfl
theorem q1167 : (Jvm.Cond.declares ({ cls := "java/lang/RuntimeException", name := "<init>", desc := "()V" } : Jvm.MethodName)) ∈ lw_tbl := lw_at lw_m5 114 rfl
theorem q1168 : (Jvm.Cond.declares ({ cls := "java/lang/RuntimeException", name := "<init>", desc := "(Ljava/lang/String;)V" } : Jvm.MethodName)) ∈ lw_tbl := lw_at lw_m5 115 rfl
theorem q1169 : (Jvm.Cond.selects "java/lang/NegativeArraySizeException" ({ cls := "java/lang/Throwable", name := "fillInStackTrace", desc := "(I)Ljava/lang/Throwable;" } : Jvm.MethodName) ({ cls := "java/lang/Throwable", name := "fillInStackTrace", desc := "(I)Ljava/lang/Throwable;" } : Jvm.MethodName)) ∈ lw_all := lw_g (lw_at lw_m5 116 rfl) rfl
theorem q1170 : (Jvm.Cond.instantiable "java/lang/String" (4 : Nat)) ∈ lw_all := lw_g (lw_at lw_m5 117 rfl) rfl
theorem q1171 : (Jvm.Cond.laysFinal "java/lang/String" "java/lang/String" "value" "[B") ∈ lw_all := lw_g (lw_at lw_m5 118 rfl) rfl
theorem q1172 : (Jvm.Cond.soleField "java/lang/String" "value") ∈ lw_all := lw_g (lw_at lw_m5 119 rfl) rfl
theorem q1173 : (Jvm.Cond.laysFinal "java/lang/String" "java/lang/String" "coder" "B") ∈ lw_all := lw_g (lw_at lw_m5 120 rfl) rfl
theorem q1174 : (Jvm.Cond.soleField "java/lang/String" "coder") ∈ lw_all := lw_g (lw_at lw_m5 121 rfl) rfl
theorem q1175 : (Jvm.Cond.methodLink "Samovar" (405 : Nat) ({ cls := "Samovar", name := "rowOf", desc := "(II)Ljava/lang/Object;" } : Jvm.MethodName)) ∈ lw_all := lw_g (lw_at lw_m5 122 rfl) rfl
theorem q1176 : (Jvm.Cond.static ({ cls := "Samovar", name := "rowOf", desc := "(II)Ljava/lang/Object;" } : Jvm.MethodName)) ∈ lw_all := lw_g (lw_at lw_m5 123 rfl) rfl
theorem q1177 : (Jvm.Cond.code ({ cls := "Samovar", name := "rowOf", desc := "(II)Ljava/lang/Object;" } : Jvm.MethodName) prog_1_method_74_code (2 : Nat) (Option.some (Jvm.ClassFile.FieldType.object "java/lang/Object"))) ∈ lw_all := lw_g (lw_at lw_m5 124 rfl) rfl
theorem q1178 : (Jvm.Cond.arrayClass Jvm.ClassFile.FieldType.short) ∈ lw_all := lw_g (lw_at lw_m5 125 rfl) rfl
theorem q1179 : (Jvm.Cond.methodLink "SamovarLaw" (142 : Nat) ({ cls := "Samovar", name := "lose", desc := "(I)I" } : Jvm.MethodName)) ∈ lw_all := lw_g (lw_at lw_m5 126 rfl) rfl
theorem q1180 : (Jvm.Cond.instanceMethod ({ cls := "Samovar", name := "lose", desc := "(I)I" } : Jvm.MethodName)) ∈ lw_all := lw_g (lw_at lw_m5 127 rfl) rfl
theorem q1181 : (Jvm.Cond.selects "Samovar" ({ cls := "Samovar", name := "lose", desc := "(I)I" } : Jvm.MethodName) ({ cls := "Samovar", name := "lose", desc := "(I)I" } : Jvm.MethodName)) ∈ lw_all := lw_g (lw_at lw_m5 128 rfl) rfl
theorem q1182 : (Jvm.Cond.code ({ cls := "Samovar", name := "lose", desc := "(I)I" } : Jvm.MethodName) prog_1_method_76_code (3 : Nat) (Option.some Jvm.ClassFile.FieldType.int)) ∈ lw_all := lw_g (lw_at lw_m5 129 rfl) rfl
theorem q1183 : (Jvm.Cond.methodLink "SamovarLaw" (146 : Nat) ({ cls := "Samovar", name := "put", desc := "(IIII)I" } : Jvm.MethodName)) ∈ lw_all := lw_g (lw_at lw_m5 130 rfl) rfl
theorem q1184 : (Jvm.Cond.instanceMethod ({ cls := "Samovar", name := "put", desc := "(IIII)I" } : Jvm.MethodName)) ∈ lw_all := lw_g (lw_at lw_m5 131 rfl) rfl
theorem q1185 : (Jvm.Cond.selects "Samovar" ({ cls := "Samovar", name := "put", desc := "(IIII)I" } : Jvm.MethodName) ({ cls := "Samovar", name := "put", desc := "(IIII)I" } : Jvm.MethodName)) ∈ lw_all := lw_g (lw_at lw_m5 132 rfl) rfl
theorem q1186 : (Jvm.Cond.codeWith ({ cls := "Samovar", name := "put", desc := "(IIII)I" } : Jvm.MethodName) prog_1_method_77_code (6 : Nat) (Option.some Jvm.ClassFile.FieldType.int) [((40 : Nat), (54 : Nat), (55 : Nat), (415 : Nat)), ((40 : Nat), (54 : Nat), (63 : Nat), (417 : Nat))]) ∈ lw_all := lw_g (lw_at lw_m5 133 rfl) rfl
theorem q1187 : (Jvm.Cond.classLink "Samovar" (415 : Nat) "java/lang/ClassCastException") ∈ lw_all := lw_g (lw_at lw_m5 134 rfl) rfl
theorem q1188 : (Jvm.Cond.instantiable "java/lang/ClassCastException" (6 : Nat)) ∈ lw_all := lw_g (lw_at lw_m5 135 rfl) rfl
theorem q1189 : (Jvm.Cond.instanceMethod ({ cls := "java/lang/ClassCastException", name := "<init>", desc := "(Ljava/lang/String;)V" } : Jvm.MethodName)) ∈ lw_all := lw_g (lw_at lw_m5 136 rfl) rfl
theorem q1190 : (Jvm.Cond.code ({ cls := "java/lang/ClassCastException", name := "<init>", desc := "(Ljava/lang/String;)V" } : Jvm.MethodName) prog_20_method_2_code (2 : Nat) (Option.none : Option Jvm.ClassFile.FieldType)) ∈ lw_all := lw_g (lw_at lw_m5 137 rfl) rfl
theorem q1191 : (Jvm.Cond.methodLink "java/lang/ClassCastException" (7 : Nat) ({ cls := "java/lang/RuntimeException", name := "<init>", desc := "(Ljava/lang/String;)V" } : Jvm.MethodName)) ∈ lw_all := lw_g (lw_at lw_m5 138 rfl) rfl
theorem q1192 : (Jvm.Cond.lays "java/lang/ClassCastException" "java/lang/Throwable" "backtrace" "Ljava/lang/Object;") ∈ lw_all := lw_g (lw_at lw_m5 139 rfl) rfl
theorem q1193 : (Jvm.Cond.lays "java/lang/ClassCastException" "java/lang/Throwable" "detailMessage" "Ljava/lang/String;") ∈ lw_all := lw_g (lw_at lw_m5 140 rfl) rfl
theorem q1194 : (Jvm.Cond.lays "java/lang/ClassCastException" "java/lang/Throwable" "cause" "Ljava/lang/Throwable;") ∈ lw_all := lw_g (lw_at lw_m5 141 rfl) rfl
theorem q1195 : (Jvm.Cond.lays "java/lang/ClassCastException" "java/lang/Throwable" "stackTrace" "[Ljava/lang/StackTraceElement;") ∈ lw_all := lw_g (lw_at lw_m5 142 rfl) rfl
theorem q1196 : (Jvm.Cond.lays "java/lang/ClassCastException" "java/lang/Throwable" "depth" "I") ∈ lw_all := lw_g (lw_at lw_m5 143 rfl) rfl
theorem q1197 : (Jvm.Cond.lays "java/lang/ClassCastException" "java/lang/Throwable" "suppressedExceptions" "Ljava/util/List;") ∈ lw_all := lw_g (lw_at lw_m5 144 rfl) rfl
theorem q1198 : (Jvm.Cond.superclass "java/lang/ClassCastException" "java/lang/RuntimeException") ∈ lw_all := lw_g (lw_at lw_m5 145 rfl) rfl
theorem q1199 : (Jvm.Cond.castable "java/lang/ClassCastException" "java/lang/ClassCastException") ∈ lw_tbl := lw_at lw_m5 146 rfl
theorem q1200 : (Jvm.Cond.selects "java/lang/ClassCastException" ({ cls := "java/lang/Throwable", name := "fillInStackTrace", desc := "(I)Ljava/lang/Throwable;" } : Jvm.MethodName) ({ cls := "java/lang/Throwable", name := "fillInStackTrace", desc := "(I)Ljava/lang/Throwable;" } : Jvm.MethodName)) ∈ lw_all := lw_g (lw_at lw_m5 147 rfl) rfl
theorem q1201 : (Jvm.Cond.classLink "Samovar" (417 : Nat) "java/lang/ArrayIndexOutOfBoundsException") ∈ lw_all := lw_g (lw_at lw_m5 148 rfl) rfl
theorem q1202 : (Jvm.Cond.instantiable "java/lang/ArrayIndexOutOfBoundsException" (6 : Nat)) ∈ lw_all := lw_g (lw_at lw_m5 149 rfl) rfl
theorem q1203 : (Jvm.Cond.instanceMethod ({ cls := "java/lang/ArrayIndexOutOfBoundsException", name := "<init>", desc := "(Ljava/lang/String;)V" } : Jvm.MethodName)) ∈ lw_all := lw_g (lw_at lw_m5 150 rfl) rfl
theorem q1204 : (Jvm.Cond.code ({ cls := "java/lang/ArrayIndexOutOfBoundsException", name := "<init>", desc := "(Ljava/lang/String;)V" } : Jvm.MethodName) prog_17_method_2_code (2 : Nat) (Option.none : Option Jvm.ClassFile.FieldType)) ∈ lw_all := lw_g (lw_at lw_m5 151 rfl) rfl
theorem q1205 : (Jvm.Cond.methodLink "java/lang/ArrayIndexOutOfBoundsException" (7 : Nat) ({ cls := "java/lang/IndexOutOfBoundsException", name := "<init>", desc := "(Ljava/lang/String;)V" } : Jvm.MethodName)) ∈ lw_all := lw_g (lw_at lw_m5 152 rfl) rfl
theorem q1206 : (Jvm.Cond.instanceMethod ({ cls := "java/lang/IndexOutOfBoundsException", name := "<init>", desc := "(Ljava/lang/String;)V" } : Jvm.MethodName)) ∈ lw_all := lw_g (lw_at lw_m5 153 rfl) rfl
theorem q1207 : (Jvm.Cond.code ({ cls := "java/lang/IndexOutOfBoundsException", name := "<init>", desc := "(Ljava/lang/String;)V" } : Jvm.MethodName) prog_24_method_2_code (2 : Nat) (Option.none : Option Jvm.ClassFile.FieldType)) ∈ lw_all := lw_g (lw_at lw_m5 154 rfl) rfl
theorem q1208 : (Jvm.Cond.methodLink "java/lang/IndexOutOfBoundsException" (7 : Nat) ({ cls := "java/lang/RuntimeException", name := "<init>", desc := "(Ljava/lang/String;)V" } : Jvm.MethodName)) ∈ lw_all := lw_g (lw_at lw_m5 155 rfl) rfl
theorem q1209 : (Jvm.Cond.lays "java/lang/ArrayIndexOutOfBoundsException" "java/lang/Throwable" "backtrace" "Ljava/lang/Object;") ∈ lw_all := lw_g (lw_at lw_m5 156 rfl) rfl
theorem q1210 : (Jvm.Cond.lays "java/lang/ArrayIndexOutOfBoundsException" "java/lang/Throwable" "detailMessage" "Ljava/lang/String;") ∈ lw_all := lw_g (lw_at lw_m5 157 rfl) rfl
theorem q1211 : (Jvm.Cond.lays "java/lang/ArrayIndexOutOfBoundsException" "java/lang/Throwable" "cause" "Ljava/lang/Throwable;") ∈ lw_all := lw_g (lw_at lw_m5 158 rfl) rfl
theorem q1212 : (Jvm.Cond.lays "java/lang/ArrayIndexOutOfBoundsException" "java/lang/Throwable" "stackTrace" "[Ljava/lang/StackTraceElement;") ∈ lw_all := lw_g (lw_at lw_m5 159 rfl) rfl
theorem q1213 : (Jvm.Cond.lays "java/lang/ArrayIndexOutOfBoundsException" "java/lang/Throwable" "depth" "I") ∈ lw_all := lw_g (lw_at lw_m5 160 rfl) rfl
theorem q1214 : (Jvm.Cond.lays "java/lang/ArrayIndexOutOfBoundsException" "java/lang/Throwable" "suppressedExceptions" "Ljava/util/List;") ∈ lw_all := lw_g (lw_at lw_m5 161 rfl) rfl
theorem q1215 : (Jvm.Cond.superclass "java/lang/ArrayIndexOutOfBoundsException" "java/lang/IndexOutOfBoundsException") ∈ lw_all := lw_g (lw_at lw_m5 162 rfl) rfl
theorem q1216 : (Jvm.Cond.castable "java/lang/ArrayIndexOutOfBoundsException" "java/lang/ArrayIndexOutOfBoundsException") ∈ lw_tbl := lw_at lw_m5 163 rfl
theorem q1217 : (Jvm.Cond.declares ({ cls := "java/lang/IndexOutOfBoundsException", name := "<init>", desc := "()V" } : Jvm.MethodName)) ∈ lw_tbl := lw_at lw_m5 164 rfl
theorem q1218 : (Jvm.Cond.declares ({ cls := "java/lang/IndexOutOfBoundsException", name := "<init>", desc := "(Ljava/lang/String;)V" } : Jvm.MethodName)) ∈ lw_tbl := lw_at lw_m5 165 rfl
theorem q1219 : (Jvm.Cond.selects "java/lang/ArrayIndexOutOfBoundsException" ({ cls := "java/lang/Throwable", name := "fillInStackTrace", desc := "(I)Ljava/lang/Throwable;" } : Jvm.MethodName) ({ cls := "java/lang/Throwable", name := "fillInStackTrace", desc := "(I)Ljava/lang/Throwable;" } : Jvm.MethodName)) ∈ lw_all := lw_g (lw_at lw_m5 166 rfl) rfl
theorem q1220 : (Jvm.Cond.methodLink "Samovar" (411 : Nat) ({ cls := "Samovar$Sheet", name := "lay", desc := "(III)V" } : Jvm.MethodName)) ∈ lw_all := lw_g (lw_at lw_m5 167 rfl) rfl
theorem q1221 : (Jvm.Cond.instanceMethod ({ cls := "Samovar$Sheet", name := "lay", desc := "(III)V" } : Jvm.MethodName)) ∈ lw_all := lw_g (lw_at lw_m5 168 rfl) rfl
theorem q1222 : (Jvm.Cond.selects "Samovar$Sheet" ({ cls := "Samovar$Sheet", name := "lay", desc := "(III)V" } : Jvm.MethodName) ({ cls := "Samovar$Sheet", name := "lay", desc := "(III)V" } : Jvm.MethodName)) ∈ lw_all := lw_g (lw_at lw_m5 169 rfl) rfl
theorem q1223 : (Jvm.Cond.code ({ cls := "Samovar$Sheet", name := "lay", desc := "(III)V" } : Jvm.MethodName) prog_9_method_5_code (4 : Nat) (Option.none : Option Jvm.ClassFile.FieldType)) ∈ lw_all := lw_g (lw_at lw_m5 170 rfl) rfl
theorem q1224 : (Jvm.Cond.methodLink "SamovarLaw" (151 : Nat) ({ cls := "Samovar", name := "get", desc := "(III)I" } : Jvm.MethodName)) ∈ lw_all := lw_g (lw_at lw_m5 171 rfl) rfl
theorem q1225 : (Jvm.Cond.instanceMethod ({ cls := "Samovar", name := "get", desc := "(III)I" } : Jvm.MethodName)) ∈ lw_all := lw_g (lw_at lw_m5 172 rfl) rfl
theorem q1226 : (Jvm.Cond.selects "Samovar" ({ cls := "Samovar", name := "get", desc := "(III)I" } : Jvm.MethodName) ({ cls := "Samovar", name := "get", desc := "(III)I" } : Jvm.MethodName)) ∈ lw_all := lw_g (lw_at lw_m5 173 rfl) rfl
theorem q1227 : (Jvm.Cond.codeWith ({ cls := "Samovar", name := "get", desc := "(III)I" } : Jvm.MethodName) prog_1_method_78_code (5 : Nat) (Option.some Jvm.ClassFile.FieldType.int) [((40 : Nat), (51 : Nat), (52 : Nat), (415 : Nat)), ((40 : Nat), (51 : Nat), (60 : Nat), (417 : Nat))]) ∈ lw_all := lw_g (lw_at lw_m5 174 rfl) rfl
theorem q1228 : (Jvm.Cond.constant "Samovar" (94 : Nat) (-2147483648 : Int32)) ∈ lw_all := lw_g (lw_at lw_m5 175 rfl) rfl
theorem q1229 : (Jvm.Cond.methodLink "Samovar" (419 : Nat) ({ cls := "Samovar", name := "lowest", desc := "(I)I" } : Jvm.MethodName)) ∈ lw_all := lw_g (lw_at lw_m5 176 rfl) rfl
theorem q1230 : (Jvm.Cond.privateMethod ({ cls := "Samovar", name := "lowest", desc := "(I)I" } : Jvm.MethodName)) ∈ lw_tbl := lw_at lw_m5 177 rfl
theorem q1231 : (Jvm.Cond.instanceMethod ({ cls := "Samovar", name := "lowest", desc := "(I)I" } : Jvm.MethodName)) ∈ lw_all := lw_g (lw_at lw_m5 178 rfl) rfl
theorem q1232 : (Jvm.Cond.code ({ cls := "Samovar", name := "lowest", desc := "(I)I" } : Jvm.MethodName) prog_1_method_5_code (2 : Nat) (Option.some Jvm.ClassFile.FieldType.int)) ∈ lw_all := lw_g (lw_at lw_m5 179 rfl) rfl
theorem q1233 : (Jvm.Cond.methodLink "SamovarLaw" (155 : Nat) ({ cls := "Samovar", name := "copy", desc := "(IIIII)I" } : Jvm.MethodName)) ∈ lw_all := lw_g (lw_at lw_m5 180 rfl) rfl
theorem q1234 : (Jvm.Cond.instanceMethod ({ cls := "Samovar", name := "copy", desc := "(IIIII)I" } : Jvm.MethodName)) ∈ lw_all := lw_g (lw_at lw_m5 181 rfl) rfl
theorem q1235 : (Jvm.Cond.selects "Samovar" ({ cls := "Samovar", name := "copy", desc := "(IIIII)I" } : Jvm.MethodName) ({ cls := "Samovar", name := "copy", desc := "(IIIII)I" } : Jvm.MethodName)) ∈ lw_all := lw_g (lw_at lw_m5 182 rfl) rfl
theorem q1236 : (Jvm.Cond.codeWith ({ cls := "Samovar", name := "copy", desc := "(IIIII)I" } : Jvm.MethodName) prog_1_method_79_code (7 : Nat) (Option.some Jvm.ClassFile.FieldType.int) [((74 : Nat), (101 : Nat), (102 : Nat), (428 : Nat))]) ∈ lw_all := lw_g (lw_at lw_m5 183 rfl) rfl
theorem q1237 : (Jvm.Cond.classLink "Samovar" (428 : Nat) "java/lang/IndexOutOfBoundsException") ∈ lw_all := lw_g (lw_at lw_m5 184 rfl) rfl
theorem q1238 : (Jvm.Cond.methodLink "Samovar" (422 : Nat) ({ cls := "java/lang/System", name := "arraycopy", desc := "(Ljava/lang/Object;ILjava/lang/Object;II)V" } : Jvm.MethodName)) ∈ lw_all := lw_g (lw_at lw_m5 185 rfl) rfl
theorem q1239 : (Jvm.Cond.methodLink "SamovarLaw" (160 : Nat) ({ cls := "Samovar", name := "write", desc := "(II)I" } : Jvm.MethodName)) ∈ lw_all := lw_g (lw_at lw_m5 186 rfl) rfl
theorem q1240 : (Jvm.Cond.instanceMethod ({ cls := "Samovar", name := "write", desc := "(II)I" } : Jvm.MethodName)) ∈ lw_all := lw_g (lw_at lw_m5 187 rfl) rfl
theorem q1241 : (Jvm.Cond.selects "Samovar" ({ cls := "Samovar", name := "write", desc := "(II)I" } : Jvm.MethodName) ({ cls := "Samovar", name := "write", desc := "(II)I" } : Jvm.MethodName)) ∈ lw_all := lw_g (lw_at lw_m5 188 rfl) rfl
theorem q1242 : (Jvm.Cond.code ({ cls := "Samovar", name := "write", desc := "(II)I" } : Jvm.MethodName) prog_1_method_80_code (6 : Nat) (Option.some Jvm.ClassFile.FieldType.int)) ∈ lw_all := lw_g (lw_at lw_m5 189 rfl) rfl
theorem q1243 : (Jvm.Cond.methodLink "SamovarLaw" (164 : Nat) ({ cls := "Samovar", name := "count", desc := "(I)I" } : Jvm.MethodName)) ∈ lw_all := lw_g (lw_at lw_m5 190 rfl) rfl
theorem q1244 : (Jvm.Cond.instanceMethod ({ cls := "Samovar", name := "count", desc := "(I)I" } : Jvm.MethodName)) ∈ lw_all := lw_g (lw_at lw_m5 191 rfl) rfl
theorem q1245 : (Jvm.Cond.selects "Samovar" ({ cls := "Samovar", name := "count", desc := "(I)I" } : Jvm.MethodName) ({ cls := "Samovar", name := "count", desc := "(I)I" } : Jvm.MethodName)) ∈ lw_all := lw_g (lw_at lw_m5 192 rfl) rfl
theorem q1246 : (Jvm.Cond.code ({ cls := "Samovar", name := "count", desc := "(I)I" } : Jvm.MethodName) prog_1_method_81_code (2 : Nat) (Option.some Jvm.ClassFile.FieldType.int)) ∈ lw_all := lw_g (lw_at lw_m5 193 rfl) rfl
theorem q1247 : (Jvm.Cond.methodLink "Samovar" (430 : Nat) ({ cls := "Samovar$Woodpile", name := "length", desc := "()I" } : Jvm.MethodName)) ∈ lw_all := lw_g (lw_at lw_m5 194 rfl) rfl
theorem q1248 : (Jvm.Cond.sameMethod "Samovar$Woodpile" "Samovar$Text" "length" "()I") ∈ lw_all := lw_g (lw_at lw_m5 195 rfl) rfl
theorem q1249 : (Jvm.Cond.declares ({ cls := "Samovar$Text", name := "length", desc := "()I" } : Jvm.MethodName)) ∈ lw_tbl := lw_at lw_m5 196 rfl
theorem q1250 : (Jvm.Cond.selects "Samovar$Woodpile" ({ cls := "Samovar$Woodpile", name := "length", desc := "()I" } : Jvm.MethodName) ({ cls := "Samovar$Text", name := "length", desc := "()I" } : Jvm.MethodName)) ∈ lw_all := lw_g (lw_at lw_m5 197 rfl) rfl
theorem q1251 : (Jvm.Cond.instanceMethod ({ cls := "Samovar$Text", name := "length", desc := "()I" } : Jvm.MethodName)) ∈ lw_all := lw_g (lw_at lw_m5 198 rfl) rfl
theorem q1252 : (Jvm.Cond.code ({ cls := "Samovar$Text", name := "length", desc := "()I" } : Jvm.MethodName) prog_11_method_8_code (1 : Nat) (Option.some Jvm.ClassFile.FieldType.int)) ∈ lw_all := lw_g (lw_at lw_m5 199 rfl) rfl
theorem q1253 : (Jvm.Cond.methodLink "Samovar" (433 : Nat) ({ cls := "Samovar$Company", name := "length", desc := "()I" } : Jvm.MethodName)) ∈ lw_all := lw_g (lw_at lw_m5 200 rfl) rfl
theorem q1254 : (Jvm.Cond.sameMethod "Samovar$Company" "Samovar$Text" "length" "()I") ∈ lw_all := lw_g (lw_at lw_m5 201 rfl) rfl
theorem q1255 : (Jvm.Cond.selects "Samovar$Company" ({ cls := "Samovar$Company", name := "length", desc := "()I" } : Jvm.MethodName) ({ cls := "Samovar$Text", name := "length", desc := "()I" } : Jvm.MethodName)) ∈ lw_all := lw_g (lw_at lw_m5 202 rfl) rfl
theorem q1256 : (Jvm.Cond.methodLink "SamovarLaw" (168 : Nat) ({ cls := "Samovar", name := "digest", desc := "()J" } : Jvm.MethodName)) ∈ lw_all := lw_g (lw_at lw_m5 203 rfl) rfl
theorem q1257 : (Jvm.Cond.instanceMethod ({ cls := "Samovar", name := "digest", desc := "()J" } : Jvm.MethodName)) ∈ lw_all := lw_g (lw_at lw_m5 204 rfl) rfl
theorem q1258 : (Jvm.Cond.selects "Samovar" ({ cls := "Samovar", name := "digest", desc := "()J" } : Jvm.MethodName) ({ cls := "Samovar", name := "digest", desc := "()J" } : Jvm.MethodName)) ∈ lw_all := lw_g (lw_at lw_m5 205 rfl) rfl
theorem q1259 : (Jvm.Cond.code ({ cls := "Samovar", name := "digest", desc := "()J" } : Jvm.MethodName) prog_1_method_84_code (5 : Nat) (Option.some Jvm.ClassFile.FieldType.long)) ∈ lw_all := lw_g (lw_at lw_m5 206 rfl) rfl
theorem q1260 : (Jvm.Cond.constantLong "Samovar" (436 : Nat) (17 : Int64)) ∈ lw_all := lw_g (lw_at lw_m5 207 rfl) rfl
theorem q1261 : (Jvm.Cond.constantLong "Samovar" (434 : Nat) (31 : Int64)) ∈ lw_all := lw_g (lw_at lw_m5 208 rfl) rfl
theorem q1262 : (Jvm.Cond.methodLink "Samovar" (438 : Nat) ({ cls := "Samovar", name := "count", desc := "(I)I" } : Jvm.MethodName)) ∈ lw_all := lw_g (lw_at lw_m5 209 rfl) rfl
theorem q1263 : (Jvm.Cond.methodLink "Samovar" (441 : Nat) ({ cls := "Samovar", name := "tellsPiece", desc := "(JLSamovar$Piece;)J" } : Jvm.MethodName)) ∈ lw_all := lw_g (lw_at lw_m5 210 rfl) rfl
theorem q1264 : (Jvm.Cond.privateMethod ({ cls := "Samovar", name := "tellsPiece", desc := "(JLSamovar$Piece;)J" } : Jvm.MethodName)) ∈ lw_tbl := lw_at lw_m5 211 rfl
theorem q1265 : (Jvm.Cond.instanceMethod ({ cls := "Samovar", name := "tellsPiece", desc := "(JLSamovar$Piece;)J" } : Jvm.MethodName)) ∈ lw_all := lw_g (lw_at lw_m5 212 rfl) rfl
theorem q1266 : (Jvm.Cond.code ({ cls := "Samovar", name := "tellsPiece", desc := "(JLSamovar$Piece;)J" } : Jvm.MethodName) prog_1_method_82_code (7 : Nat) (Option.some Jvm.ClassFile.FieldType.long)) ∈ lw_all := lw_g (lw_at lw_m5 213 rfl) rfl
theorem q1267 : (Jvm.Cond.methodLink "Samovar" (445 : Nat) ({ cls := "Samovar", name := "tellsGuest", desc := "(JI)J" } : Jvm.MethodName)) ∈ lw_all := lw_g (lw_at lw_m5 214 rfl) rfl
theorem q1268 : (Jvm.Cond.privateMethod ({ cls := "Samovar", name := "tellsGuest", desc := "(JI)J" } : Jvm.MethodName)) ∈ lw_tbl := lw_at lw_m5 215 rfl
theorem q1269 : (Jvm.Cond.instanceMethod ({ cls := "Samovar", name := "tellsGuest", desc := "(JI)J" } : Jvm.MethodName)) ∈ lw_all := lw_g (lw_at lw_m5 216 rfl) rfl
theorem q1270 : (Jvm.Cond.code ({ cls := "Samovar", name := "tellsGuest", desc := "(JI)J" } : Jvm.MethodName) prog_1_method_83_code (8 : Nat) (Option.some Jvm.ClassFile.FieldType.long)) ∈ lw_all := lw_g (lw_at lw_m5 217 rfl) rfl
theorem q1271 : (Jvm.Cond.classLink "SamovarLaw" (10 : Nat) "SamovarModel") ∈ lw_all := lw_g (lw_at lw_m5 218 rfl) rfl
theorem q1272 : (Jvm.Cond.instantiable "SamovarModel" (53 : Nat)) ∈ lw_all := lw_g (lw_at lw_m5 219 rfl) rfl
theorem q1273 : (Jvm.Cond.methodLink "SamovarLaw" (12 : Nat) ({ cls := "SamovarModel", name := "<init>", desc := "()V" } : Jvm.MethodName)) ∈ lw_all := lw_g (lw_at lw_m5 220 rfl) rfl
theorem q1274 : (Jvm.Cond.instanceMethod ({ cls := "SamovarModel", name := "<init>", desc := "()V" } : Jvm.MethodName)) ∈ lw_all := lw_g (lw_at lw_m5 221 rfl) rfl
theorem q1275 : (Jvm.Cond.code ({ cls := "SamovarModel", name := "<init>", desc := "()V" } : Jvm.MethodName) prog_15_method_1_code (1 : Nat) (Option.none : Option Jvm.ClassFile.FieldType)) ∈ lw_all := lw_g (lw_at lw_m5 222 rfl) rfl
theorem q1276 : (Jvm.Cond.methodLink "SamovarModel" (1 : Nat) ({ cls := "java/lang/Object", name := "<init>", desc := "()V" } : Jvm.MethodName)) ∈ lw_all := lw_g (lw_at lw_m5 223 rfl) rfl
theorem q1277 : (Jvm.Cond.fieldLink "SamovarModel" (7 : Nat) "SamovarModel" "typed" "[I") ∈ lw_all := lw_g (lw_at lw_m5 224 rfl) rfl
theorem q1278 : (Jvm.Cond.fieldLink "SamovarModel" (13 : Nat) "SamovarModel" "texts" "[I") ∈ lw_all := lw_g (lw_at lw_m5 225 rfl) rfl
theorem q1279 : (Jvm.Cond.fieldLink "SamovarModel" (134 : Nat) "SamovarModel" "pieces" "I") ∈ lw_all := lw_g (lw_at lw_m5 226 rfl) rfl
theorem q1280 : (Jvm.Cond.fieldLink "SamovarModel" (16 : Nat) "SamovarModel" "pieceAt" "[I") ∈ lw_all := lw_g (lw_at lw_m5 227 rfl) rfl
theorem q1281 : (Jvm.Cond.fieldLink "SamovarModel" (19 : Nat) "SamovarModel" "pieceKind" "[I") ∈ lw_all := lw_g (lw_at lw_m5 228 rfl) rfl
theorem q1282 : (Jvm.Cond.fieldLink "SamovarModel" (22 : Nat) "SamovarModel" "pieceMany" "[I") ∈ lw_all := lw_g (lw_at lw_m5 229 rfl) rfl
theorem q1283 : (Jvm.Cond.fieldLink "SamovarModel" (137 : Nat) "SamovarModel" "guests" "I") ∈ lw_all := lw_g (lw_at lw_m5 230 rfl) rfl
theorem q1284 : (Jvm.Cond.fieldLink "SamovarModel" (25 : Nat) "SamovarModel" "guestAt" "[I") ∈ lw_all := lw_g (lw_at lw_m5 231 rfl) rfl
theorem q1285 : (Jvm.Cond.fieldLink "SamovarModel" (28 : Nat) "SamovarModel" "guestDark" "[I") ∈ lw_all := lw_g (lw_at lw_m5 232 rfl) rfl
theorem q1286 : (Jvm.Cond.fieldLink "SamovarModel" (31 : Nat) "SamovarModel" "guestAll" "[I") ∈ lw_all := lw_g (lw_at lw_m5 233 rfl) rfl
theorem q1287 : (Jvm.Cond.fieldLink "SamovarModel" (110 : Nat) "SamovarModel" "waterTold" "I") ∈ lw_all := lw_g (lw_at lw_m5 234 rfl) rfl
theorem q1288 : (Jvm.Cond.fieldLink "SamovarModel" (114 : Nat) "SamovarModel" "brewTold" "I") ∈ lw_all := lw_g (lw_at lw_m5 235 rfl) rfl
theorem q1289 : (Jvm.Cond.fieldLink "SamovarModel" (169 : Nat) "SamovarModel" "events" "I") ∈ lw_all := lw_g (lw_at lw_m5 236 rfl) rfl
theorem q1290 : (Jvm.Cond.fieldLink "SamovarModel" (34 : Nat) "SamovarModel" "eventKind" "[I") ∈ lw_all := lw_g (lw_at lw_m5 237 rfl) rfl
theorem q1291 : (Jvm.Cond.fieldLink "SamovarModel" (37 : Nat) "SamovarModel" "eventAt" "[I") ∈ lw_all := lw_g (lw_at lw_m5 238 rfl) rfl
theorem q1292 : (Jvm.Cond.fieldLink "SamovarModel" (40 : Nat) "SamovarModel" "eventNumber" "[I") ∈ lw_all := lw_g (lw_at lw_m5 239 rfl) rfl
theorem q1293 : (Jvm.Cond.fieldLink "SamovarModel" (181 : Nat) "SamovarModel" "guestsNow" "I") ∈ lw_all := lw_g (lw_at lw_m6 0 rfl) rfl
theorem q1294 : (Jvm.Cond.fieldLink "SamovarModel" (43 : Nat) "SamovarModel" "comeNow" "[I") ∈ lw_all := lw_g (lw_at lw_m6 1 rfl) rfl
theorem q1295 : (Jvm.Cond.fieldLink "SamovarModel" (46 : Nat) "SamovarModel" "darkNow" "[I") ∈ lw_all := lw_g (lw_at lw_m6 2 rfl) rfl
theorem q1296 : (Jvm.Cond.fieldLink "SamovarModel" (49 : Nat) "SamovarModel" "allNow" "[I") ∈ lw_all := lw_g (lw_at lw_m6 3 rfl) rfl
theorem q1297 : (Jvm.Cond.fieldLink "SamovarModel" (184 : Nat) "SamovarModel" "waterNow" "I") ∈ lw_all := lw_g (lw_at lw_m6 4 rfl) rfl
theorem q1298 : (Jvm.Cond.fieldLink "SamovarModel" (187 : Nat) "SamovarModel" "notEvents" "I") ∈ lw_all := lw_g (lw_at lw_m6 5 rfl) rfl
theorem q1299 : (Jvm.Cond.fieldLink "SamovarModel" (203 : Nat) "SamovarModel" "heat" "I") ∈ lw_all := lw_g (lw_at lw_m6 6 rfl) rfl
theorem q1300 : (Jvm.Cond.fieldLink "SamovarModel" (197 : Nat) "SamovarModel" "water" "I") ∈ lw_all := lw_g (lw_at lw_m6 7 rfl) rfl
theorem q1301 : (Jvm.Cond.fieldLink "SamovarModel" (206 : Nat) "SamovarModel" "brew" "I") ∈ lw_all := lw_g (lw_at lw_m6 8 rfl) rfl
theorem q1302 : (Jvm.Cond.fieldLink "SamovarModel" (190 : Nat) "SamovarModel" "boot" "I") ∈ lw_all := lw_g (lw_at lw_m6 9 rfl) rfl
theorem q1303 : (Jvm.Cond.fieldLink "SamovarModel" (226 : Nat) "SamovarModel" "steamed" "I") ∈ lw_all := lw_g (lw_at lw_m6 10 rfl) rfl
theorem q1304 : (Jvm.Cond.fieldLink "SamovarModel" (229 : Nat) "SamovarModel" "boiled" "I") ∈ lw_all := lw_g (lw_at lw_m6 11 rfl) rfl
theorem q1305 : (Jvm.Cond.fieldLink "SamovarModel" (232 : Nat) "SamovarModel" "firstBoil" "I") ∈ lw_all := lw_g (lw_at lw_m6 12 rfl) rfl
theorem q1306 : (Jvm.Cond.fieldLink "SamovarModel" (209 : Nat) "SamovarModel" "lineMany" "I") ∈ lw_all := lw_g (lw_at lw_m6 13 rfl) rfl
theorem q1307 : (Jvm.Cond.fieldLink "SamovarModel" (52 : Nat) "SamovarModel" "line" "[I") ∈ lw_all := lw_g (lw_at lw_m6 14 rfl) rfl
theorem q1308 : (Jvm.Cond.fieldLink "SamovarModel" (55 : Nat) "SamovarModel" "state" "[I") ∈ lw_all := lw_g (lw_at lw_m6 15 rfl) rfl
theorem q1309 : (Jvm.Cond.fieldLink "SamovarModel" (58 : Nat) "SamovarModel" "had" "[I") ∈ lw_all := lw_g (lw_at lw_m6 16 rfl) rfl
theorem q1310 : (Jvm.Cond.fieldLink "SamovarModel" (61 : Nat) "SamovarModel" "backAt" "[I") ∈ lw_all := lw_g (lw_at lw_m6 17 rfl) rfl
theorem q1311 : (Jvm.Cond.fieldLink "SamovarModel" (64 : Nat) "SamovarModel" "since" "[I") ∈ lw_all := lw_g (lw_at lw_m6 18 rfl) rfl
theorem q1312 : (Jvm.Cond.fieldLink "SamovarModel" (67 : Nat) "SamovarModel" "waits" "[I") ∈ lw_all := lw_g (lw_at lw_m6 19 rfl) rfl
theorem q1313 : (Jvm.Cond.fieldLink "SamovarModel" (70 : Nat) "SamovarModel" "tells" "[I") ∈ lw_all := lw_g (lw_at lw_m6 20 rfl) rfl
theorem q1314 : (Jvm.Cond.fieldLink "SamovarModel" (73 : Nat) "SamovarModel" "lineAt" "[I") ∈ lw_all := lw_g (lw_at lw_m6 21 rfl) rfl
theorem q1315 : (Jvm.Cond.fieldLink "SamovarModel" (76 : Nat) "SamovarModel" "stateAt" "[I") ∈ lw_all := lw_g (lw_at lw_m6 22 rfl) rfl
theorem q1316 : (Jvm.Cond.fieldLink "SamovarModel" (79 : Nat) "SamovarModel" "hadAt" "[I") ∈ lw_all := lw_g (lw_at lw_m6 23 rfl) rfl
theorem q1317 : (Jvm.Cond.fieldLink "SamovarModel" (287 : Nat) "SamovarModel" "bestNow" "I") ∈ lw_all := lw_g (lw_at lw_m6 24 rfl) rfl
theorem q1318 : (Jvm.Cond.fieldLink "SamovarModel" (290 : Nat) "SamovarModel" "mostNow" "I") ∈ lw_all := lw_g (lw_at lw_m6 25 rfl) rfl
theorem q1319 : (Jvm.Cond.fieldLink "SamovarModel" (82 : Nat) "SamovarModel" "planRow" "[I") ∈ lw_all := lw_g (lw_at lw_m6 26 rfl) rfl
theorem q1320 : (Jvm.Cond.fieldLink "SamovarModel" (317 : Nat) "SamovarModel" "seens" "I") ∈ lw_all := lw_g (lw_at lw_m6 27 rfl) rfl
theorem q1321 : (Jvm.Cond.fieldLink "SamovarModel" (85 : Nat) "SamovarModel" "seenAt" "[I") ∈ lw_all := lw_g (lw_at lw_m6 28 rfl) rfl
theorem q1322 : (Jvm.Cond.fieldLink "SamovarModel" (88 : Nat) "SamovarModel" "seenIs" "[I") ∈ lw_all := lw_g (lw_at lw_m6 29 rfl) rfl
theorem q1323 : (Jvm.Cond.fieldLink "SamovarModel" (91 : Nat) "SamovarModel" "boilsBy" "[I") ∈ lw_all := lw_g (lw_at lw_m6 30 rfl) rfl
theorem q1324 : (Jvm.Cond.fieldLink "SamovarModel" (94 : Nat) "SamovarModel" "isThere" "[Z") ∈ lw_all := lw_g (lw_at lw_m6 31 rfl) rfl
theorem q1325 : (Jvm.Cond.fieldLink "SamovarModel" (98 : Nat) "SamovarModel" "forms" "[I") ∈ lw_all := lw_g (lw_at lw_m6 32 rfl) rfl
theorem q1326 : (Jvm.Cond.fieldLink "SamovarModel" (101 : Nat) "SamovarModel" "sizes" "[I") ∈ lw_all := lw_g (lw_at lw_m6 33 rfl) rfl
theorem q1327 : (Jvm.Cond.fieldLink "SamovarModel" (104 : Nat) "SamovarModel" "items" "[I") ∈ lw_all := lw_g (lw_at lw_m6 34 rfl) rfl
theorem q1328 : (Jvm.Cond.fieldLink "SamovarModel" (107 : Nat) "SamovarModel" "moved" "[I") ∈ lw_all := lw_g (lw_at lw_m6 35 rfl) rfl
theorem q1329 : (Jvm.Cond.fieldLink "SamovarModel" (355 : Nat) "SamovarModel" "finding" "I") ∈ lw_all := lw_g (lw_at lw_m6 36 rfl) rfl
theorem q1330 : (Jvm.Cond.laysFinal "SamovarModel" "SamovarModel" "typed" "[I") ∈ lw_all := lw_g (lw_at lw_m6 37 rfl) rfl
theorem q1331 : (Jvm.Cond.soleField "SamovarModel" "typed") ∈ lw_all := lw_g (lw_at lw_m6 38 rfl) rfl
theorem q1332 : (Jvm.Cond.laysFinal "SamovarModel" "SamovarModel" "texts" "[I") ∈ lw_all := lw_g (lw_at lw_m6 39 rfl) rfl
theorem q1333 : (Jvm.Cond.soleField "SamovarModel" "texts") ∈ lw_all := lw_g (lw_at lw_m6 40 rfl) rfl
theorem q1334 : (Jvm.Cond.lays "SamovarModel" "SamovarModel" "pieces" "I") ∈ lw_all := lw_g (lw_at lw_m6 41 rfl) rfl
theorem q1335 : (Jvm.Cond.soleField "SamovarModel" "pieces") ∈ lw_all := lw_g (lw_at lw_m6 42 rfl) rfl
theorem q1336 : (Jvm.Cond.laysFinal "SamovarModel" "SamovarModel" "pieceAt" "[I") ∈ lw_all := lw_g (lw_at lw_m6 43 rfl) rfl
theorem q1337 : (Jvm.Cond.soleField "SamovarModel" "pieceAt") ∈ lw_all := lw_g (lw_at lw_m6 44 rfl) rfl
theorem q1338 : (Jvm.Cond.laysFinal "SamovarModel" "SamovarModel" "pieceKind" "[I") ∈ lw_all := lw_g (lw_at lw_m6 45 rfl) rfl
theorem q1339 : (Jvm.Cond.soleField "SamovarModel" "pieceKind") ∈ lw_all := lw_g (lw_at lw_m6 46 rfl) rfl
theorem q1340 : (Jvm.Cond.laysFinal "SamovarModel" "SamovarModel" "pieceMany" "[I") ∈ lw_all := lw_g (lw_at lw_m6 47 rfl) rfl
theorem q1341 : (Jvm.Cond.soleField "SamovarModel" "pieceMany") ∈ lw_all := lw_g (lw_at lw_m6 48 rfl) rfl
theorem q1342 : (Jvm.Cond.lays "SamovarModel" "SamovarModel" "guests" "I") ∈ lw_all := lw_g (lw_at lw_m6 49 rfl) rfl
theorem q1343 : (Jvm.Cond.soleField "SamovarModel" "guests") ∈ lw_all := lw_g (lw_at lw_m6 50 rfl) rfl
theorem q1344 : (Jvm.Cond.laysFinal "SamovarModel" "SamovarModel" "guestAt" "[I") ∈ lw_all := lw_g (lw_at lw_m6 51 rfl) rfl
theorem q1345 : (Jvm.Cond.soleField "SamovarModel" "guestAt") ∈ lw_all := lw_g (lw_at lw_m6 52 rfl) rfl
theorem q1346 : (Jvm.Cond.laysFinal "SamovarModel" "SamovarModel" "guestDark" "[I") ∈ lw_all := lw_g (lw_at lw_m6 53 rfl) rfl
theorem q1347 : (Jvm.Cond.soleField "SamovarModel" "guestDark") ∈ lw_all := lw_g (lw_at lw_m6 54 rfl) rfl
theorem q1348 : (Jvm.Cond.laysFinal "SamovarModel" "SamovarModel" "guestAll" "[I") ∈ lw_all := lw_g (lw_at lw_m6 55 rfl) rfl
theorem q1349 : (Jvm.Cond.soleField "SamovarModel" "guestAll") ∈ lw_all := lw_g (lw_at lw_m6 56 rfl) rfl
theorem q1350 : (Jvm.Cond.lays "SamovarModel" "SamovarModel" "waterTold" "I") ∈ lw_all := lw_g (lw_at lw_m6 57 rfl) rfl
theorem q1351 : (Jvm.Cond.soleField "SamovarModel" "waterTold") ∈ lw_all := lw_g (lw_at lw_m6 58 rfl) rfl
theorem q1352 : (Jvm.Cond.lays "SamovarModel" "SamovarModel" "brewTold" "I") ∈ lw_all := lw_g (lw_at lw_m6 59 rfl) rfl
theorem q1353 : (Jvm.Cond.soleField "SamovarModel" "brewTold") ∈ lw_all := lw_g (lw_at lw_m6 60 rfl) rfl
theorem q1354 : (Jvm.Cond.lays "SamovarModel" "SamovarModel" "events" "I") ∈ lw_all := lw_g (lw_at lw_m6 61 rfl) rfl
theorem q1355 : (Jvm.Cond.soleField "SamovarModel" "events") ∈ lw_all := lw_g (lw_at lw_m6 62 rfl) rfl
theorem q1356 : (Jvm.Cond.laysFinal "SamovarModel" "SamovarModel" "eventKind" "[I") ∈ lw_all := lw_g (lw_at lw_m6 63 rfl) rfl
theorem q1357 : (Jvm.Cond.soleField "SamovarModel" "eventKind") ∈ lw_all := lw_g (lw_at lw_m6 64 rfl) rfl
theorem q1358 : (Jvm.Cond.laysFinal "SamovarModel" "SamovarModel" "eventAt" "[I") ∈ lw_all := lw_g (lw_at lw_m6 65 rfl) rfl
theorem q1359 : (Jvm.Cond.soleField "SamovarModel" "eventAt") ∈ lw_all := lw_g (lw_at lw_m6 66 rfl) rfl
theorem q1360 : (Jvm.Cond.laysFinal "SamovarModel" "SamovarModel" "eventNumber" "[I") ∈ lw_all := lw_g (lw_at lw_m6 67 rfl) rfl
theorem q1361 : (Jvm.Cond.soleField "SamovarModel" "eventNumber") ∈ lw_all := lw_g (lw_at lw_m6 68 rfl) rfl
theorem q1362 : (Jvm.Cond.lays "SamovarModel" "SamovarModel" "guestsNow" "I") ∈ lw_all := lw_g (lw_at lw_m6 69 rfl) rfl
theorem q1363 : (Jvm.Cond.soleField "SamovarModel" "guestsNow") ∈ lw_all := lw_g (lw_at lw_m6 70 rfl) rfl
theorem q1364 : (Jvm.Cond.laysFinal "SamovarModel" "SamovarModel" "comeNow" "[I") ∈ lw_all := lw_g (lw_at lw_m6 71 rfl) rfl
theorem q1365 : (Jvm.Cond.soleField "SamovarModel" "comeNow") ∈ lw_all := lw_g (lw_at lw_m6 72 rfl) rfl
theorem q1366 : (Jvm.Cond.laysFinal "SamovarModel" "SamovarModel" "darkNow" "[I") ∈ lw_all := lw_g (lw_at lw_m6 73 rfl) rfl
theorem q1367 : (Jvm.Cond.soleField "SamovarModel" "darkNow") ∈ lw_all := lw_g (lw_at lw_m6 74 rfl) rfl
theorem q1368 : (Jvm.Cond.laysFinal "SamovarModel" "SamovarModel" "allNow" "[I") ∈ lw_all := lw_g (lw_at lw_m6 75 rfl) rfl
theorem q1369 : (Jvm.Cond.soleField "SamovarModel" "allNow") ∈ lw_all := lw_g (lw_at lw_m6 76 rfl) rfl
theorem q1370 : (Jvm.Cond.lays "SamovarModel" "SamovarModel" "waterNow" "I") ∈ lw_all := lw_g (lw_at lw_m6 77 rfl) rfl
theorem q1371 : (Jvm.Cond.soleField "SamovarModel" "waterNow") ∈ lw_all := lw_g (lw_at lw_m6 78 rfl) rfl
theorem q1372 : (Jvm.Cond.lays "SamovarModel" "SamovarModel" "notEvents" "I") ∈ lw_all := lw_g (lw_at lw_m6 79 rfl) rfl
theorem q1373 : (Jvm.Cond.soleField "SamovarModel" "notEvents") ∈ lw_all := lw_g (lw_at lw_m6 80 rfl) rfl
theorem q1374 : (Jvm.Cond.lays "SamovarModel" "SamovarModel" "heat" "I") ∈ lw_all := lw_g (lw_at lw_m6 81 rfl) rfl
theorem q1375 : (Jvm.Cond.soleField "SamovarModel" "heat") ∈ lw_all := lw_g (lw_at lw_m6 82 rfl) rfl
theorem q1376 : (Jvm.Cond.lays "SamovarModel" "SamovarModel" "water" "I") ∈ lw_all := lw_g (lw_at lw_m6 83 rfl) rfl
theorem q1377 : (Jvm.Cond.soleField "SamovarModel" "water") ∈ lw_all := lw_g (lw_at lw_m6 84 rfl) rfl
theorem q1378 : (Jvm.Cond.lays "SamovarModel" "SamovarModel" "brew" "I") ∈ lw_all := lw_g (lw_at lw_m6 85 rfl) rfl
theorem q1379 : (Jvm.Cond.soleField "SamovarModel" "brew") ∈ lw_all := lw_g (lw_at lw_m6 86 rfl) rfl
theorem q1380 : (Jvm.Cond.lays "SamovarModel" "SamovarModel" "boot" "I") ∈ lw_all := lw_g (lw_at lw_m6 87 rfl) rfl
theorem q1381 : (Jvm.Cond.soleField "SamovarModel" "boot") ∈ lw_all := lw_g (lw_at lw_m6 88 rfl) rfl
theorem q1382 : (Jvm.Cond.lays "SamovarModel" "SamovarModel" "steamed" "I") ∈ lw_all := lw_g (lw_at lw_m6 89 rfl) rfl
theorem q1383 : (Jvm.Cond.soleField "SamovarModel" "steamed") ∈ lw_all := lw_g (lw_at lw_m6 90 rfl) rfl
theorem q1384 : (Jvm.Cond.lays "SamovarModel" "SamovarModel" "boiled" "I") ∈ lw_all := lw_g (lw_at lw_m6 91 rfl) rfl
theorem q1385 : (Jvm.Cond.soleField "SamovarModel" "boiled") ∈ lw_all := lw_g (lw_at lw_m6 92 rfl) rfl
theorem q1386 : (Jvm.Cond.lays "SamovarModel" "SamovarModel" "firstBoil" "I") ∈ lw_all := lw_g (lw_at lw_m6 93 rfl) rfl
theorem q1387 : (Jvm.Cond.soleField "SamovarModel" "firstBoil") ∈ lw_all := lw_g (lw_at lw_m6 94 rfl) rfl
theorem q1388 : (Jvm.Cond.lays "SamovarModel" "SamovarModel" "lineMany" "I") ∈ lw_all := lw_g (lw_at lw_m6 95 rfl) rfl
theorem q1389 : (Jvm.Cond.soleField "SamovarModel" "lineMany") ∈ lw_all := lw_g (lw_at lw_m6 96 rfl) rfl
theorem q1390 : (Jvm.Cond.laysFinal "SamovarModel" "SamovarModel" "line" "[I") ∈ lw_all := lw_g (lw_at lw_m6 97 rfl) rfl
theorem q1391 : (Jvm.Cond.soleField "SamovarModel" "line") ∈ lw_all := lw_g (lw_at lw_m6 98 rfl) rfl
theorem q1392 : (Jvm.Cond.laysFinal "SamovarModel" "SamovarModel" "state" "[I") ∈ lw_all := lw_g (lw_at lw_m6 99 rfl) rfl
theorem q1393 : (Jvm.Cond.soleField "SamovarModel" "state") ∈ lw_all := lw_g (lw_at lw_m6 100 rfl) rfl
theorem q1394 : (Jvm.Cond.laysFinal "SamovarModel" "SamovarModel" "had" "[I") ∈ lw_all := lw_g (lw_at lw_m6 101 rfl) rfl
theorem q1395 : (Jvm.Cond.soleField "SamovarModel" "had") ∈ lw_all := lw_g (lw_at lw_m6 102 rfl) rfl
theorem q1396 : (Jvm.Cond.laysFinal "SamovarModel" "SamovarModel" "backAt" "[I") ∈ lw_all := lw_g (lw_at lw_m6 103 rfl) rfl
theorem q1397 : (Jvm.Cond.soleField "SamovarModel" "backAt") ∈ lw_all := lw_g (lw_at lw_m6 104 rfl) rfl
theorem q1398 : (Jvm.Cond.laysFinal "SamovarModel" "SamovarModel" "since" "[I") ∈ lw_all := lw_g (lw_at lw_m6 105 rfl) rfl
theorem q1399 : (Jvm.Cond.soleField "SamovarModel" "since") ∈ lw_all := lw_g (lw_at lw_m6 106 rfl) rfl
theorem q1400 : (Jvm.Cond.laysFinal "SamovarModel" "SamovarModel" "waits" "[I") ∈ lw_all := lw_g (lw_at lw_m6 107 rfl) rfl
theorem q1401 : (Jvm.Cond.soleField "SamovarModel" "waits") ∈ lw_all := lw_g (lw_at lw_m6 108 rfl) rfl
theorem q1402 : (Jvm.Cond.laysFinal "SamovarModel" "SamovarModel" "tells" "[I") ∈ lw_all := lw_g (lw_at lw_m6 109 rfl) rfl
theorem q1403 : (Jvm.Cond.soleField "SamovarModel" "tells") ∈ lw_all := lw_g (lw_at lw_m6 110 rfl) rfl
theorem q1404 : (Jvm.Cond.laysFinal "SamovarModel" "SamovarModel" "lineAt" "[I") ∈ lw_all := lw_g (lw_at lw_m6 111 rfl) rfl
theorem q1405 : (Jvm.Cond.soleField "SamovarModel" "lineAt") ∈ lw_all := lw_g (lw_at lw_m6 112 rfl) rfl
theorem q1406 : (Jvm.Cond.laysFinal "SamovarModel" "SamovarModel" "stateAt" "[I") ∈ lw_all := lw_g (lw_at lw_m6 113 rfl) rfl
theorem q1407 : (Jvm.Cond.soleField "SamovarModel" "stateAt") ∈ lw_all := lw_g (lw_at lw_m6 114 rfl) rfl
theorem q1408 : (Jvm.Cond.laysFinal "SamovarModel" "SamovarModel" "hadAt" "[I") ∈ lw_all := lw_g (lw_at lw_m6 115 rfl) rfl
theorem q1409 : (Jvm.Cond.soleField "SamovarModel" "hadAt") ∈ lw_all := lw_g (lw_at lw_m6 116 rfl) rfl
theorem q1410 : (Jvm.Cond.lays "SamovarModel" "SamovarModel" "bestNow" "I") ∈ lw_all := lw_g (lw_at lw_m6 117 rfl) rfl
theorem q1411 : (Jvm.Cond.soleField "SamovarModel" "bestNow") ∈ lw_all := lw_g (lw_at lw_m6 118 rfl) rfl
theorem q1412 : (Jvm.Cond.lays "SamovarModel" "SamovarModel" "mostNow" "I") ∈ lw_all := lw_g (lw_at lw_m6 119 rfl) rfl
theorem q1413 : (Jvm.Cond.soleField "SamovarModel" "mostNow") ∈ lw_all := lw_g (lw_at lw_m6 120 rfl) rfl
theorem q1414 : (Jvm.Cond.laysFinal "SamovarModel" "SamovarModel" "planRow" "[I") ∈ lw_all := lw_g (lw_at lw_m6 121 rfl) rfl
theorem q1415 : (Jvm.Cond.soleField "SamovarModel" "planRow") ∈ lw_all := lw_g (lw_at lw_m6 122 rfl) rfl
theorem q1416 : (Jvm.Cond.lays "SamovarModel" "SamovarModel" "seens" "I") ∈ lw_all := lw_g (lw_at lw_m6 123 rfl) rfl
theorem q1417 : (Jvm.Cond.soleField "SamovarModel" "seens") ∈ lw_all := lw_g (lw_at lw_m6 124 rfl) rfl
theorem q1418 : (Jvm.Cond.laysFinal "SamovarModel" "SamovarModel" "seenAt" "[I") ∈ lw_all := lw_g (lw_at lw_m6 125 rfl) rfl
theorem q1419 : (Jvm.Cond.soleField "SamovarModel" "seenAt") ∈ lw_all := lw_g (lw_at lw_m6 126 rfl) rfl
theorem q1420 : (Jvm.Cond.laysFinal "SamovarModel" "SamovarModel" "seenIs" "[I") ∈ lw_all := lw_g (lw_at lw_m6 127 rfl) rfl
theorem q1421 : (Jvm.Cond.soleField "SamovarModel" "seenIs") ∈ lw_all := lw_g (lw_at lw_m6 128 rfl) rfl
theorem q1422 : (Jvm.Cond.laysFinal "SamovarModel" "SamovarModel" "boilsBy" "[I") ∈ lw_all := lw_g (lw_at lw_m6 129 rfl) rfl
theorem q1423 : (Jvm.Cond.soleField "SamovarModel" "boilsBy") ∈ lw_all := lw_g (lw_at lw_m6 130 rfl) rfl
theorem q1424 : (Jvm.Cond.laysFinal "SamovarModel" "SamovarModel" "isThere" "[Z") ∈ lw_all := lw_g (lw_at lw_m6 131 rfl) rfl
theorem q1425 : (Jvm.Cond.soleField "SamovarModel" "isThere") ∈ lw_all := lw_g (lw_at lw_m6 132 rfl) rfl
theorem q1426 : (Jvm.Cond.laysFinal "SamovarModel" "SamovarModel" "forms" "[I") ∈ lw_all := lw_g (lw_at lw_m6 133 rfl) rfl
theorem q1427 : (Jvm.Cond.soleField "SamovarModel" "forms") ∈ lw_all := lw_g (lw_at lw_m6 134 rfl) rfl
theorem q1428 : (Jvm.Cond.laysFinal "SamovarModel" "SamovarModel" "sizes" "[I") ∈ lw_all := lw_g (lw_at lw_m6 135 rfl) rfl
theorem q1429 : (Jvm.Cond.soleField "SamovarModel" "sizes") ∈ lw_all := lw_g (lw_at lw_m6 136 rfl) rfl
theorem q1430 : (Jvm.Cond.laysFinal "SamovarModel" "SamovarModel" "items" "[I") ∈ lw_all := lw_g (lw_at lw_m6 137 rfl) rfl
theorem q1431 : (Jvm.Cond.soleField "SamovarModel" "items") ∈ lw_all := lw_g (lw_at lw_m6 138 rfl) rfl
theorem q1432 : (Jvm.Cond.laysFinal "SamovarModel" "SamovarModel" "moved" "[I") ∈ lw_all := lw_g (lw_at lw_m6 139 rfl) rfl
theorem q1433 : (Jvm.Cond.soleField "SamovarModel" "moved") ∈ lw_all := lw_g (lw_at lw_m6 140 rfl) rfl
theorem q1434 : (Jvm.Cond.lays "SamovarModel" "SamovarModel" "finding" "I") ∈ lw_all := lw_g (lw_at lw_m6 141 rfl) rfl
theorem q1435 : (Jvm.Cond.soleField "SamovarModel" "finding") ∈ lw_all := lw_g (lw_at lw_m6 142 rfl) rfl
theorem q1436 : (Jvm.Cond.superclass "SamovarModel" "java/lang/Object") ∈ lw_all := lw_g (lw_at lw_m6 143 rfl) rfl
theorem q1437 : (Jvm.Cond.arrayClass Jvm.ClassFile.FieldType.boolean) ∈ lw_all := lw_g (lw_at lw_m6 144 rfl) rfl
theorem q1438 : (Jvm.Cond.methodLink "SamovarLaw" (17 : Nat) ({ cls := "SamovarModel", name := "type", desc := "(II)I" } : Jvm.MethodName)) ∈ lw_all := lw_g (lw_at lw_m6 145 rfl) rfl
theorem q1439 : (Jvm.Cond.instanceMethod ({ cls := "SamovarModel", name := "type", desc := "(II)I" } : Jvm.MethodName)) ∈ lw_all := lw_g (lw_at lw_m6 146 rfl) rfl
theorem q1440 : (Jvm.Cond.selects "SamovarModel" ({ cls := "SamovarModel", name := "type", desc := "(II)I" } : Jvm.MethodName) ({ cls := "SamovarModel", name := "type", desc := "(II)I" } : Jvm.MethodName)) ∈ lw_all := lw_g (lw_at lw_m6 147 rfl) rfl
theorem q1441 : (Jvm.Cond.code ({ cls := "SamovarModel", name := "type", desc := "(II)I" } : Jvm.MethodName) prog_15_method_11_code (3 : Nat) (Option.some Jvm.ClassFile.FieldType.int)) ∈ lw_all := lw_g (lw_at lw_m6 148 rfl) rfl
theorem q1442 : (Jvm.Cond.methodLink "SamovarModel" (123 : Nat) ({ cls := "SamovarModel", name := "isTwo", desc := "(I)Z" } : Jvm.MethodName)) ∈ lw_all := lw_g (lw_at lw_m6 149 rfl) rfl
theorem q1443 : (Jvm.Cond.static ({ cls := "SamovarModel", name := "isTwo", desc := "(I)Z" } : Jvm.MethodName)) ∈ lw_all := lw_g (lw_at lw_m6 150 rfl) rfl
theorem q1444 : (Jvm.Cond.code ({ cls := "SamovarModel", name := "isTwo", desc := "(I)Z" } : Jvm.MethodName) prog_15_method_8_code (1 : Nat) (Option.some Jvm.ClassFile.FieldType.boolean)) ∈ lw_all := lw_g (lw_at lw_m6 151 rfl) rfl
theorem q1445 : (Jvm.Cond.methodLink "SamovarModel" (119 : Nat) ({ cls := "SamovarModel", name := "in", desc := "(III)Z" } : Jvm.MethodName)) ∈ lw_all := lw_g (lw_at lw_m6 152 rfl) rfl
theorem q1446 : (Jvm.Cond.static ({ cls := "SamovarModel", name := "in", desc := "(III)Z" } : Jvm.MethodName)) ∈ lw_all := lw_g (lw_at lw_m6 153 rfl) rfl
theorem q1447 : (Jvm.Cond.code ({ cls := "SamovarModel", name := "in", desc := "(III)Z" } : Jvm.MethodName) prog_15_method_3_code (3 : Nat) (Option.some Jvm.ClassFile.FieldType.boolean)) ∈ lw_all := lw_g (lw_at lw_m6 154 rfl) rfl
theorem q1448 : (Jvm.Cond.methodLink "SamovarLaw" (22 : Nat) ({ cls := "SamovarModel", name := "wipe", desc := "(I)I" } : Jvm.MethodName)) ∈ lw_all := lw_g (lw_at lw_m6 155 rfl) rfl
theorem q1449 : (Jvm.Cond.instanceMethod ({ cls := "SamovarModel", name := "wipe", desc := "(I)I" } : Jvm.MethodName)) ∈ lw_all := lw_g (lw_at lw_m6 156 rfl) rfl
theorem q1450 : (Jvm.Cond.selects "SamovarModel" ({ cls := "SamovarModel", name := "wipe", desc := "(I)I" } : Jvm.MethodName) ({ cls := "SamovarModel", name := "wipe", desc := "(I)I" } : Jvm.MethodName)) ∈ lw_all := lw_g (lw_at lw_m6 157 rfl) rfl
theorem q1451 : (Jvm.Cond.code ({ cls := "SamovarModel", name := "wipe", desc := "(I)I" } : Jvm.MethodName) prog_15_method_12_code (3 : Nat) (Option.some Jvm.ClassFile.FieldType.int)) ∈ lw_all := lw_g (lw_at lw_m6 158 rfl) rfl
theorem q1452 : (Jvm.Cond.methodLink "SamovarLaw" (26 : Nat) ({ cls := "SamovarModel", name := "undo", desc := "(I)I" } : Jvm.MethodName)) ∈ lw_all := lw_g (lw_at lw_m6 159 rfl) rfl
theorem q1453 : (Jvm.Cond.instanceMethod ({ cls := "SamovarModel", name := "undo", desc := "(I)I" } : Jvm.MethodName)) ∈ lw_all := lw_g (lw_at lw_m6 160 rfl) rfl
theorem q1454 : (Jvm.Cond.selects "SamovarModel" ({ cls := "SamovarModel", name := "undo", desc := "(I)I" } : Jvm.MethodName) ({ cls := "SamovarModel", name := "undo", desc := "(I)I" } : Jvm.MethodName)) ∈ lw_all := lw_g (lw_at lw_m6 161 rfl) rfl
theorem q1455 : (Jvm.Cond.code ({ cls := "SamovarModel", name := "undo", desc := "(I)I" } : Jvm.MethodName) prog_15_method_13_code (2 : Nat) (Option.some Jvm.ClassFile.FieldType.int)) ∈ lw_all := lw_g (lw_at lw_m6 162 rfl) rfl
theorem q1456 : (Jvm.Cond.methodLink "SamovarLaw" (30 : Nat) ({ cls := "SamovarModel", name := "fault", desc := "(I)I" } : Jvm.MethodName)) ∈ lw_all := lw_g (lw_at lw_m6 163 rfl) rfl
theorem q1457 : (Jvm.Cond.instanceMethod ({ cls := "SamovarModel", name := "fault", desc := "(I)I" } : Jvm.MethodName)) ∈ lw_all := lw_g (lw_at lw_m6 164 rfl) rfl
theorem q1458 : (Jvm.Cond.selects "SamovarModel" ({ cls := "SamovarModel", name := "fault", desc := "(I)I" } : Jvm.MethodName) ({ cls := "SamovarModel", name := "fault", desc := "(I)I" } : Jvm.MethodName)) ∈ lw_all := lw_g (lw_at lw_m6 165 rfl) rfl
theorem q1459 : (Jvm.Cond.code ({ cls := "SamovarModel", name := "fault", desc := "(I)I" } : Jvm.MethodName) prog_15_method_19_code (2 : Nat) (Option.some Jvm.ClassFile.FieldType.int)) ∈ lw_all := lw_g (lw_at lw_m6 166 rfl) rfl
theorem q1460 : (Jvm.Cond.methodLink "SamovarModel" (148 : Nat) ({ cls := "SamovarModel", name := "faultOf", desc := "(I)I" } : Jvm.MethodName)) ∈ lw_all := lw_g (lw_at lw_m6 167 rfl) rfl
theorem q1461 : (Jvm.Cond.privateMethod ({ cls := "SamovarModel", name := "faultOf", desc := "(I)I" } : Jvm.MethodName)) ∈ lw_tbl := lw_at lw_m6 168 rfl
theorem q1462 : (Jvm.Cond.instanceMethod ({ cls := "SamovarModel", name := "faultOf", desc := "(I)I" } : Jvm.MethodName)) ∈ lw_all := lw_g (lw_at lw_m6 169 rfl) rfl
theorem q1463 : (Jvm.Cond.code ({ cls := "SamovarModel", name := "faultOf", desc := "(I)I" } : Jvm.MethodName) prog_15_method_17_code (4 : Nat) (Option.some Jvm.ClassFile.FieldType.int)) ∈ lw_all := lw_g (lw_at lw_m6 170 rfl) rfl
theorem q1464 : (Jvm.Cond.methodLink "SamovarModel" (144 : Nat) ({ cls := "SamovarModel", name := "readsText", desc := "(I)I" } : Jvm.MethodName)) ∈ lw_all := lw_g (lw_at lw_m6 171 rfl) rfl
theorem q1465 : (Jvm.Cond.privateMethod ({ cls := "SamovarModel", name := "readsText", desc := "(I)I" } : Jvm.MethodName)) ∈ lw_tbl := lw_at lw_m6 172 rfl
theorem q1466 : (Jvm.Cond.instanceMethod ({ cls := "SamovarModel", name := "readsText", desc := "(I)I" } : Jvm.MethodName)) ∈ lw_all := lw_g (lw_at lw_m6 173 rfl) rfl
theorem q1467 : (Jvm.Cond.code ({ cls := "SamovarModel", name := "readsText", desc := "(I)I" } : Jvm.MethodName) prog_15_method_16_code (5 : Nat) (Option.some Jvm.ClassFile.FieldType.int)) ∈ lw_all := lw_g (lw_at lw_m6 174 rfl) rfl
theorem q1468 : (Jvm.Cond.methodLink "SamovarModel" (140 : Nat) ({ cls := "SamovarModel", name := "readsPart", desc := "(III)I" } : Jvm.MethodName)) ∈ lw_all := lw_g (lw_at lw_m6 175 rfl) rfl
theorem q1469 : (Jvm.Cond.privateMethod ({ cls := "SamovarModel", name := "readsPart", desc := "(III)I" } : Jvm.MethodName)) ∈ lw_tbl := lw_at lw_m6 176 rfl
theorem q1470 : (Jvm.Cond.instanceMethod ({ cls := "SamovarModel", name := "readsPart", desc := "(III)I" } : Jvm.MethodName)) ∈ lw_all := lw_g (lw_at lw_m6 177 rfl) rfl
theorem q1471 : (Jvm.Cond.code ({ cls := "SamovarModel", name := "readsPart", desc := "(III)I" } : Jvm.MethodName) prog_15_method_15_code (8 : Nat) (Option.some Jvm.ClassFile.FieldType.int)) ∈ lw_all := lw_g (lw_at lw_m6 178 rfl) rfl
theorem q1472 : (Jvm.Cond.methodLink "SamovarModel" (127 : Nat) ({ cls := "SamovarModel", name := "byteAt", desc := "(II)I" } : Jvm.MethodName)) ∈ lw_all := lw_g (lw_at lw_m6 179 rfl) rfl
theorem q1473 : (Jvm.Cond.privateMethod ({ cls := "SamovarModel", name := "byteAt", desc := "(II)I" } : Jvm.MethodName)) ∈ lw_tbl := lw_at lw_m6 180 rfl
theorem q1474 : (Jvm.Cond.instanceMethod ({ cls := "SamovarModel", name := "byteAt", desc := "(II)I" } : Jvm.MethodName)) ∈ lw_all := lw_g (lw_at lw_m6 181 rfl) rfl
theorem q1475 : (Jvm.Cond.code ({ cls := "SamovarModel", name := "byteAt", desc := "(II)I" } : Jvm.MethodName) prog_15_method_14_code (3 : Nat) (Option.some Jvm.ClassFile.FieldType.int)) ∈ lw_all := lw_g (lw_at lw_m6 182 rfl) rfl
theorem q1476 : (Jvm.Cond.methodLink "SamovarModel" (131 : Nat) ({ cls := "SamovarModel", name := "isMinute", desc := "(I)Z" } : Jvm.MethodName)) ∈ lw_all := lw_g (lw_at lw_m6 183 rfl) rfl
theorem q1477 : (Jvm.Cond.static ({ cls := "SamovarModel", name := "isMinute", desc := "(I)Z" } : Jvm.MethodName)) ∈ lw_all := lw_g (lw_at lw_m6 184 rfl) rfl
theorem q1478 : (Jvm.Cond.code ({ cls := "SamovarModel", name := "isMinute", desc := "(I)Z" } : Jvm.MethodName) prog_15_method_10_code (1 : Nat) (Option.some Jvm.ClassFile.FieldType.boolean)) ∈ lw_all := lw_g (lw_at lw_m6 185 rfl) rfl
theorem q1479 : (Jvm.Cond.methodLink "SamovarLaw" (34 : Nat) ({ cls := "SamovarModel", name := "piece", desc := "(II)I" } : Jvm.MethodName)) ∈ lw_all := lw_g (lw_at lw_m6 186 rfl) rfl
theorem q1480 : (Jvm.Cond.instanceMethod ({ cls := "SamovarModel", name := "piece", desc := "(II)I" } : Jvm.MethodName)) ∈ lw_all := lw_g (lw_at lw_m6 187 rfl) rfl
theorem q1481 : (Jvm.Cond.selects "SamovarModel" ({ cls := "SamovarModel", name := "piece", desc := "(II)I" } : Jvm.MethodName) ({ cls := "SamovarModel", name := "piece", desc := "(II)I" } : Jvm.MethodName)) ∈ lw_all := lw_g (lw_at lw_m6 188 rfl) rfl
theorem q1482 : (Jvm.Cond.code ({ cls := "SamovarModel", name := "piece", desc := "(II)I" } : Jvm.MethodName) prog_15_method_23_code (3 : Nat) (Option.some Jvm.ClassFile.FieldType.int)) ∈ lw_all := lw_g (lw_at lw_m6 189 rfl) rfl
theorem q1483 : (Jvm.Cond.methodLink "SamovarModel" (154 : Nat) ({ cls := "SamovarModel", name := "isPiece", desc := "(I)Z" } : Jvm.MethodName)) ∈ lw_all := lw_g (lw_at lw_m6 190 rfl) rfl
theorem q1484 : (Jvm.Cond.privateMethod ({ cls := "SamovarModel", name := "isPiece", desc := "(I)Z" } : Jvm.MethodName)) ∈ lw_tbl := lw_at lw_m6 191 rfl
theorem q1485 : (Jvm.Cond.instanceMethod ({ cls := "SamovarModel", name := "isPiece", desc := "(I)Z" } : Jvm.MethodName)) ∈ lw_all := lw_g (lw_at lw_m6 192 rfl) rfl
theorem q1486 : (Jvm.Cond.code ({ cls := "SamovarModel", name := "isPiece", desc := "(I)Z" } : Jvm.MethodName) prog_15_method_20_code (2 : Nat) (Option.some Jvm.ClassFile.FieldType.boolean)) ∈ lw_all := lw_g (lw_at lw_m6 193 rfl) rfl
theorem q1487 : (Jvm.Cond.methodLink "SamovarModel" (151 : Nat) ({ cls := "SamovarModel", name := "reads", desc := "()V" } : Jvm.MethodName)) ∈ lw_all := lw_g (lw_at lw_m6 194 rfl) rfl
theorem q1488 : (Jvm.Cond.privateMethod ({ cls := "SamovarModel", name := "reads", desc := "()V" } : Jvm.MethodName)) ∈ lw_tbl := lw_at lw_m6 195 rfl
theorem q1489 : (Jvm.Cond.instanceMethod ({ cls := "SamovarModel", name := "reads", desc := "()V" } : Jvm.MethodName)) ∈ lw_all := lw_g (lw_at lw_m6 196 rfl) rfl
theorem q1490 : (Jvm.Cond.code ({ cls := "SamovarModel", name := "reads", desc := "()V" } : Jvm.MethodName) prog_15_method_18_code (2 : Nat) (Option.none : Option Jvm.ClassFile.FieldType)) ∈ lw_all := lw_g (lw_at lw_m6 197 rfl) rfl
theorem q1491 : (Jvm.Cond.methodLink "SamovarModel" (157 : Nat) ({ cls := "SamovarModel", name := "isThree", desc := "(I)Z" } : Jvm.MethodName)) ∈ lw_all := lw_g (lw_at lw_m6 198 rfl) rfl
theorem q1492 : (Jvm.Cond.static ({ cls := "SamovarModel", name := "isThree", desc := "(I)Z" } : Jvm.MethodName)) ∈ lw_all := lw_g (lw_at lw_m6 199 rfl) rfl
theorem q1493 : (Jvm.Cond.code ({ cls := "SamovarModel", name := "isThree", desc := "(I)Z" } : Jvm.MethodName) prog_15_method_9_code (1 : Nat) (Option.some Jvm.ClassFile.FieldType.boolean)) ∈ lw_all := lw_g (lw_at lw_m6 200 rfl) rfl
theorem q1494 : (Jvm.Cond.methodLink "SamovarModel" (160 : Nat) ({ cls := "SamovarModel", name := "pieceOf", desc := "(II)I" } : Jvm.MethodName)) ∈ lw_all := lw_g (lw_at lw_m6 201 rfl) rfl
theorem q1495 : (Jvm.Cond.privateMethod ({ cls := "SamovarModel", name := "pieceOf", desc := "(II)I" } : Jvm.MethodName)) ∈ lw_tbl := lw_at lw_m6 202 rfl
theorem q1496 : (Jvm.Cond.instanceMethod ({ cls := "SamovarModel", name := "pieceOf", desc := "(II)I" } : Jvm.MethodName)) ∈ lw_all := lw_g (lw_at lw_m6 203 rfl) rfl
theorem q1497 : (Jvm.Cond.code ({ cls := "SamovarModel", name := "pieceOf", desc := "(II)I" } : Jvm.MethodName) prog_15_method_22_code (3 : Nat) (Option.some Jvm.ClassFile.FieldType.int)) ∈ lw_all := lw_g (lw_at lw_m6 204 rfl) rfl
theorem q1498 : (Jvm.Cond.methodLink "SamovarLaw" (38 : Nat) ({ cls := "SamovarModel", name := "guest", desc := "(II)I" } : Jvm.MethodName)) ∈ lw_all := lw_g (lw_at lw_m6 205 rfl) rfl
theorem q1499 : (Jvm.Cond.instanceMethod ({ cls := "SamovarModel", name := "guest", desc := "(II)I" } : Jvm.MethodName)) ∈ lw_all := lw_g (lw_at lw_m6 206 rfl) rfl
theorem q1500 : (Jvm.Cond.selects "SamovarModel" ({ cls := "SamovarModel", name := "guest", desc := "(II)I" } : Jvm.MethodName) ({ cls := "SamovarModel", name := "guest", desc := "(II)I" } : Jvm.MethodName)) ∈ lw_all := lw_g (lw_at lw_m6 207 rfl) rfl
theorem q1501 : (Jvm.Cond.code ({ cls := "SamovarModel", name := "guest", desc := "(II)I" } : Jvm.MethodName) prog_15_method_25_code (3 : Nat) (Option.some Jvm.ClassFile.FieldType.int)) ∈ lw_all := lw_g (lw_at lw_m6 208 rfl) rfl
theorem q1502 : (Jvm.Cond.methodLink "SamovarModel" (163 : Nat) ({ cls := "SamovarModel", name := "isGuest", desc := "(I)Z" } : Jvm.MethodName)) ∈ lw_all := lw_g (lw_at lw_m6 209 rfl) rfl
theorem q1503 : (Jvm.Cond.privateMethod ({ cls := "SamovarModel", name := "isGuest", desc := "(I)Z" } : Jvm.MethodName)) ∈ lw_tbl := lw_at lw_m6 210 rfl
theorem q1504 : (Jvm.Cond.instanceMethod ({ cls := "SamovarModel", name := "isGuest", desc := "(I)Z" } : Jvm.MethodName)) ∈ lw_all := lw_g (lw_at lw_m6 211 rfl) rfl
theorem q1505 : (Jvm.Cond.code ({ cls := "SamovarModel", name := "isGuest", desc := "(I)Z" } : Jvm.MethodName) prog_15_method_21_code (2 : Nat) (Option.some Jvm.ClassFile.FieldType.boolean)) ∈ lw_all := lw_g (lw_at lw_m6 212 rfl) rfl
theorem q1506 : (Jvm.Cond.methodLink "SamovarModel" (166 : Nat) ({ cls := "SamovarModel", name := "guestOf", desc := "(II)I" } : Jvm.MethodName)) ∈ lw_all := lw_g (lw_at lw_m6 213 rfl) rfl
theorem q1507 : (Jvm.Cond.privateMethod ({ cls := "SamovarModel", name := "guestOf", desc := "(II)I" } : Jvm.MethodName)) ∈ lw_tbl := lw_at lw_m6 214 rfl
theorem q1508 : (Jvm.Cond.instanceMethod ({ cls := "SamovarModel", name := "guestOf", desc := "(II)I" } : Jvm.MethodName)) ∈ lw_all := lw_g (lw_at lw_m6 215 rfl) rfl
theorem q1509 : (Jvm.Cond.code ({ cls := "SamovarModel", name := "guestOf", desc := "(II)I" } : Jvm.MethodName) prog_15_method_24_code (3 : Nat) (Option.some Jvm.ClassFile.FieldType.int)) ∈ lw_all := lw_g (lw_at lw_m6 216 rfl) rfl
theorem q1510 : (Jvm.Cond.methodLink "SamovarLaw" (42 : Nat) ({ cls := "SamovarModel", name := "set", desc := "(II)I" } : Jvm.MethodName)) ∈ lw_all := lw_g (lw_at lw_m6 217 rfl) rfl
theorem q1511 : (Jvm.Cond.instanceMethod ({ cls := "SamovarModel", name := "set", desc := "(II)I" } : Jvm.MethodName)) ∈ lw_all := lw_g (lw_at lw_m6 218 rfl) rfl
theorem q1512 : (Jvm.Cond.selects "SamovarModel" ({ cls := "SamovarModel", name := "set", desc := "(II)I" } : Jvm.MethodName) ({ cls := "SamovarModel", name := "set", desc := "(II)I" } : Jvm.MethodName)) ∈ lw_all := lw_g (lw_at lw_m6 219 rfl) rfl
theorem q1513 : (Jvm.Cond.code ({ cls := "SamovarModel", name := "set", desc := "(II)I" } : Jvm.MethodName) prog_15_method_26_code (4 : Nat) (Option.some Jvm.ClassFile.FieldType.int)) ∈ lw_all := lw_g (lw_at lw_m6 220 rfl) rfl
theorem q1514 : (Jvm.Cond.methodLink "SamovarLaw" (47 : Nat) ({ cls := "SamovarModel", name := "event", desc := "(III)I" } : Jvm.MethodName)) ∈ lw_all := lw_g (lw_at lw_m6 221 rfl) rfl
theorem q1515 : (Jvm.Cond.instanceMethod ({ cls := "SamovarModel", name := "event", desc := "(III)I" } : Jvm.MethodName)) ∈ lw_all := lw_g (lw_at lw_m6 222 rfl) rfl
theorem q1516 : (Jvm.Cond.selects "SamovarModel" ({ cls := "SamovarModel", name := "event", desc := "(III)I" } : Jvm.MethodName) ({ cls := "SamovarModel", name := "event", desc := "(III)I" } : Jvm.MethodName)) ∈ lw_all := lw_g (lw_at lw_m6 223 rfl) rfl
theorem q1517 : (Jvm.Cond.code ({ cls := "SamovarModel", name := "event", desc := "(III)I" } : Jvm.MethodName) prog_15_method_27_code (4 : Nat) (Option.some Jvm.ClassFile.FieldType.int)) ∈ lw_all := lw_g (lw_at lw_m6 224 rfl) rfl
theorem q1518 : (Jvm.Cond.methodLink "SamovarLaw" (52 : Nat) ({ cls := "SamovarModel", name := "back", desc := "()I" } : Jvm.MethodName)) ∈ lw_all := lw_g (lw_at lw_m6 225 rfl) rfl
theorem q1519 : (Jvm.Cond.instanceMethod ({ cls := "SamovarModel", name := "back", desc := "()I" } : Jvm.MethodName)) ∈ lw_all := lw_g (lw_at lw_m6 226 rfl) rfl
theorem q1520 : (Jvm.Cond.selects "SamovarModel" ({ cls := "SamovarModel", name := "back", desc := "()I" } : Jvm.MethodName) ({ cls := "SamovarModel", name := "back", desc := "()I" } : Jvm.MethodName)) ∈ lw_all := lw_g (lw_at lw_m6 227 rfl) rfl
theorem q1521 : (Jvm.Cond.code ({ cls := "SamovarModel", name := "back", desc := "()I" } : Jvm.MethodName) prog_15_method_28_code (1 : Nat) (Option.some Jvm.ClassFile.FieldType.int)) ∈ lw_all := lw_g (lw_at lw_m6 228 rfl) rfl
theorem q1522 : (Jvm.Cond.methodLink "SamovarLaw" (56 : Nat) ({ cls := "SamovarModel", name := "read", desc := "(I)I" } : Jvm.MethodName)) ∈ lw_all := lw_g (lw_at lw_m6 229 rfl) rfl
theorem q1523 : (Jvm.Cond.instanceMethod ({ cls := "SamovarModel", name := "read", desc := "(I)I" } : Jvm.MethodName)) ∈ lw_all := lw_g (lw_at lw_m6 230 rfl) rfl
theorem q1524 : (Jvm.Cond.selects "SamovarModel" ({ cls := "SamovarModel", name := "read", desc := "(I)I" } : Jvm.MethodName) ({ cls := "SamovarModel", name := "read", desc := "(I)I" } : Jvm.MethodName)) ∈ lw_all := lw_g (lw_at lw_m6 231 rfl) rfl
theorem q1525 : (Jvm.Cond.code ({ cls := "SamovarModel", name := "read", desc := "(I)I" } : Jvm.MethodName) prog_15_method_29_code (4 : Nat) (Option.some Jvm.ClassFile.FieldType.int)) ∈ lw_all := lw_g (lw_at lw_m6 232 rfl) rfl
theorem q1526 : (Jvm.Cond.methodLink "SamovarModel" (172 : Nat) ({ cls := "SamovarModel", name := "isSheet", desc := "(I)Z" } : Jvm.MethodName)) ∈ lw_all := lw_g (lw_at lw_m6 233 rfl) rfl
theorem q1527 : (Jvm.Cond.static ({ cls := "SamovarModel", name := "isSheet", desc := "(I)Z" } : Jvm.MethodName)) ∈ lw_all := lw_g (lw_at lw_m6 234 rfl) rfl
theorem q1528 : (Jvm.Cond.code ({ cls := "SamovarModel", name := "isSheet", desc := "(I)Z" } : Jvm.MethodName) prog_15_method_88_code (1 : Nat) (Option.some Jvm.ClassFile.FieldType.boolean)) ∈ lw_all := lw_g (lw_at lw_m6 235 rfl) rfl
theorem q1529 : (Jvm.Cond.methodLink "SamovarModel" (175 : Nat) ({ cls := "SamovarModel", name := "meets", desc := "(I)I" } : Jvm.MethodName)) ∈ lw_all := lw_g (lw_at lw_m6 236 rfl) rfl
theorem q1530 : (Jvm.Cond.privateMethod ({ cls := "SamovarModel", name := "meets", desc := "(I)I" } : Jvm.MethodName)) ∈ lw_tbl := lw_at lw_m6 237 rfl
theorem q1531 : (Jvm.Cond.instanceMethod ({ cls := "SamovarModel", name := "meets", desc := "(I)I" } : Jvm.MethodName)) ∈ lw_all := lw_g (lw_at lw_m6 238 rfl) rfl
theorem q1532 : (Jvm.Cond.code ({ cls := "SamovarModel", name := "meets", desc := "(I)I" } : Jvm.MethodName) prog_15_method_87_code (2 : Nat) (Option.some Jvm.ClassFile.FieldType.int)) ∈ lw_all := lw_g (lw_at lw_m6 239 rfl) rfl
theorem q1533 : (Jvm.Cond.methodLink "SamovarModel" (178 : Nat) ({ cls := "SamovarModel", name := "event", desc := "(III)I" } : Jvm.MethodName)) ∈ lw_all := lw_g (lw_at lw_m7 0 rfl) rfl
theorem q1534 : (Jvm.Cond.methodLink "SamovarLaw" (60 : Nat) ({ cls := "SamovarModel", name := "at", desc := "(II)I" } : Jvm.MethodName)) ∈ lw_all := lw_g (lw_at lw_m7 1 rfl) rfl
theorem q1535 : (Jvm.Cond.instanceMethod ({ cls := "SamovarModel", name := "at", desc := "(II)I" } : Jvm.MethodName)) ∈ lw_all := lw_g (lw_at lw_m7 2 rfl) rfl
theorem q1536 : (Jvm.Cond.selects "SamovarModel" ({ cls := "SamovarModel", name := "at", desc := "(II)I" } : Jvm.MethodName) ({ cls := "SamovarModel", name := "at", desc := "(II)I" } : Jvm.MethodName)) ∈ lw_all := lw_g (lw_at lw_m7 3 rfl) rfl
theorem q1537 : (Jvm.Cond.code ({ cls := "SamovarModel", name := "at", desc := "(II)I" } : Jvm.MethodName) prog_15_method_42_code (3 : Nat) (Option.some Jvm.ClassFile.FieldType.int)) ∈ lw_all := lw_g (lw_at lw_m7 4 rfl) rfl
theorem q1538 : (Jvm.Cond.methodLink "SamovarModel" (256 : Nat) ({ cls := "SamovarModel", name := "atOf", desc := "(II)I" } : Jvm.MethodName)) ∈ lw_all := lw_g (lw_at lw_m7 5 rfl) rfl
theorem q1539 : (Jvm.Cond.privateMethod ({ cls := "SamovarModel", name := "atOf", desc := "(II)I" } : Jvm.MethodName)) ∈ lw_tbl := lw_at lw_m7 6 rfl
theorem q1540 : (Jvm.Cond.instanceMethod ({ cls := "SamovarModel", name := "atOf", desc := "(II)I" } : Jvm.MethodName)) ∈ lw_all := lw_g (lw_at lw_m7 7 rfl) rfl
theorem q1541 : (Jvm.Cond.code ({ cls := "SamovarModel", name := "atOf", desc := "(II)I" } : Jvm.MethodName) prog_15_method_41_code (3 : Nat) (Option.some Jvm.ClassFile.FieldType.int)) ∈ lw_all := lw_g (lw_at lw_m7 8 rfl) rfl
theorem q1542 : (Jvm.Cond.methodLink "SamovarModel" (253 : Nat) ({ cls := "SamovarModel", name := "runsTold", desc := "()V" } : Jvm.MethodName)) ∈ lw_all := lw_g (lw_at lw_m7 9 rfl) rfl
theorem q1543 : (Jvm.Cond.privateMethod ({ cls := "SamovarModel", name := "runsTold", desc := "()V" } : Jvm.MethodName)) ∈ lw_tbl := lw_at lw_m7 10 rfl
theorem q1544 : (Jvm.Cond.instanceMethod ({ cls := "SamovarModel", name := "runsTold", desc := "()V" } : Jvm.MethodName)) ∈ lw_all := lw_g (lw_at lw_m7 11 rfl) rfl
theorem q1545 : (Jvm.Cond.code ({ cls := "SamovarModel", name := "runsTold", desc := "()V" } : Jvm.MethodName) prog_15_method_40_code (1 : Nat) (Option.none : Option Jvm.ClassFile.FieldType)) ∈ lw_all := lw_g (lw_at lw_m7 12 rfl) rfl
theorem q1546 : (Jvm.Cond.methodLink "SamovarModel" (247 : Nat) ({ cls := "SamovarModel", name := "asTold", desc := "()V" } : Jvm.MethodName)) ∈ lw_all := lw_g (lw_at lw_m7 13 rfl) rfl
theorem q1547 : (Jvm.Cond.privateMethod ({ cls := "SamovarModel", name := "asTold", desc := "()V" } : Jvm.MethodName)) ∈ lw_tbl := lw_at lw_m7 14 rfl
theorem q1548 : (Jvm.Cond.instanceMethod ({ cls := "SamovarModel", name := "asTold", desc := "()V" } : Jvm.MethodName)) ∈ lw_all := lw_g (lw_at lw_m7 15 rfl) rfl
theorem q1549 : (Jvm.Cond.code ({ cls := "SamovarModel", name := "asTold", desc := "()V" } : Jvm.MethodName) prog_15_method_30_code (2 : Nat) (Option.none : Option Jvm.ClassFile.FieldType)) ∈ lw_all := lw_g (lw_at lw_m7 16 rfl) rfl
theorem q1550 : (Jvm.Cond.methodLink "SamovarModel" (250 : Nat) ({ cls := "SamovarModel", name := "runs", desc := "()V" } : Jvm.MethodName)) ∈ lw_all := lw_g (lw_at lw_m7 17 rfl) rfl
theorem q1551 : (Jvm.Cond.privateMethod ({ cls := "SamovarModel", name := "runs", desc := "()V" } : Jvm.MethodName)) ∈ lw_tbl := lw_at lw_m7 18 rfl
theorem q1552 : (Jvm.Cond.instanceMethod ({ cls := "SamovarModel", name := "runs", desc := "()V" } : Jvm.MethodName)) ∈ lw_all := lw_g (lw_at lw_m7 19 rfl) rfl
theorem q1553 : (Jvm.Cond.code ({ cls := "SamovarModel", name := "runs", desc := "()V" } : Jvm.MethodName) prog_15_method_39_code (2 : Nat) (Option.none : Option Jvm.ClassFile.FieldType)) ∈ lw_all := lw_g (lw_at lw_m7 20 rfl) rfl
theorem q1554 : (Jvm.Cond.methodLink "SamovarModel" (244 : Nat) ({ cls := "SamovarModel", name := "goesBy", desc := "(I)V" } : Jvm.MethodName)) ∈ lw_all := lw_g (lw_at lw_m7 21 rfl) rfl
theorem q1555 : (Jvm.Cond.privateMethod ({ cls := "SamovarModel", name := "goesBy", desc := "(I)V" } : Jvm.MethodName)) ∈ lw_tbl := lw_at lw_m7 22 rfl
theorem q1556 : (Jvm.Cond.instanceMethod ({ cls := "SamovarModel", name := "goesBy", desc := "(I)V" } : Jvm.MethodName)) ∈ lw_all := lw_g (lw_at lw_m7 23 rfl) rfl
theorem q1557 : (Jvm.Cond.code ({ cls := "SamovarModel", name := "goesBy", desc := "(I)V" } : Jvm.MethodName) prog_15_method_38_code (7 : Nat) (Option.none : Option Jvm.ClassFile.FieldType)) ∈ lw_all := lw_g (lw_at lw_m7 24 rfl) rfl
theorem q1558 : (Jvm.Cond.methodLink "SamovarModel" (220 : Nat) ({ cls := "SamovarModel", name := "befalls", desc := "(I)V" } : Jvm.MethodName)) ∈ lw_all := lw_g (lw_at lw_m7 25 rfl) rfl
theorem q1559 : (Jvm.Cond.privateMethod ({ cls := "SamovarModel", name := "befalls", desc := "(I)V" } : Jvm.MethodName)) ∈ lw_tbl := lw_at lw_m7 26 rfl
theorem q1560 : (Jvm.Cond.instanceMethod ({ cls := "SamovarModel", name := "befalls", desc := "(I)V" } : Jvm.MethodName)) ∈ lw_all := lw_g (lw_at lw_m7 27 rfl) rfl
theorem q1561 : (Jvm.Cond.code ({ cls := "SamovarModel", name := "befalls", desc := "(I)V" } : Jvm.MethodName) prog_15_method_31_code (4 : Nat) (Option.none : Option Jvm.ClassFile.FieldType)) ∈ lw_all := lw_g (lw_at lw_m7 28 rfl) rfl
theorem q1562 : (Jvm.Cond.methodLink "SamovarModel" (193 : Nat) ({ cls := "SamovarModel", name := "isIn", desc := "(II)Z" } : Jvm.MethodName)) ∈ lw_all := lw_g (lw_at lw_m7 29 rfl) rfl
theorem q1563 : (Jvm.Cond.static ({ cls := "SamovarModel", name := "isIn", desc := "(II)Z" } : Jvm.MethodName)) ∈ lw_all := lw_g (lw_at lw_m7 30 rfl) rfl
theorem q1564 : (Jvm.Cond.code ({ cls := "SamovarModel", name := "isIn", desc := "(II)Z" } : Jvm.MethodName) prog_15_method_4_code (2 : Nat) (Option.some Jvm.ClassFile.FieldType.boolean)) ∈ lw_all := lw_g (lw_at lw_m7 31 rfl) rfl
theorem q1565 : (Jvm.Cond.methodLink "SamovarModel" (200 : Nat) ({ cls := "SamovarModel", name := "less", desc := "(II)I" } : Jvm.MethodName)) ∈ lw_all := lw_g (lw_at lw_m7 32 rfl) rfl
theorem q1566 : (Jvm.Cond.static ({ cls := "SamovarModel", name := "less", desc := "(II)I" } : Jvm.MethodName)) ∈ lw_all := lw_g (lw_at lw_m7 33 rfl) rfl
theorem q1567 : (Jvm.Cond.code ({ cls := "SamovarModel", name := "less", desc := "(II)I" } : Jvm.MethodName) prog_15_method_6_code (2 : Nat) (Option.some Jvm.ClassFile.FieldType.int)) ∈ lw_all := lw_g (lw_at lw_m7 34 rfl) rfl
theorem q1568 : (Jvm.Cond.methodLink "SamovarModel" (223 : Nat) ({ cls := "SamovarModel", name := "fireAt", desc := "(I)I" } : Jvm.MethodName)) ∈ lw_all := lw_g (lw_at lw_m7 35 rfl) rfl
theorem q1569 : (Jvm.Cond.privateMethod ({ cls := "SamovarModel", name := "fireAt", desc := "(I)I" } : Jvm.MethodName)) ∈ lw_tbl := lw_at lw_m7 36 rfl
theorem q1570 : (Jvm.Cond.instanceMethod ({ cls := "SamovarModel", name := "fireAt", desc := "(I)I" } : Jvm.MethodName)) ∈ lw_all := lw_g (lw_at lw_m7 37 rfl) rfl
theorem q1571 : (Jvm.Cond.code ({ cls := "SamovarModel", name := "fireAt", desc := "(I)I" } : Jvm.MethodName) prog_15_method_32_code (6 : Nat) (Option.some Jvm.ClassFile.FieldType.int)) ∈ lw_all := lw_g (lw_at lw_m7 38 rfl) rfl
theorem q1572 : (Jvm.Cond.methodLink "SamovarModel" (235 : Nat) ({ cls := "SamovarModel", name := "comes", desc := "(I)V" } : Jvm.MethodName)) ∈ lw_all := lw_g (lw_at lw_m7 39 rfl) rfl
theorem q1573 : (Jvm.Cond.privateMethod ({ cls := "SamovarModel", name := "comes", desc := "(I)V" } : Jvm.MethodName)) ∈ lw_tbl := lw_at lw_m7 40 rfl
theorem q1574 : (Jvm.Cond.instanceMethod ({ cls := "SamovarModel", name := "comes", desc := "(I)V" } : Jvm.MethodName)) ∈ lw_all := lw_g (lw_at lw_m7 41 rfl) rfl
theorem q1575 : (Jvm.Cond.code ({ cls := "SamovarModel", name := "comes", desc := "(I)V" } : Jvm.MethodName) prog_15_method_34_code (3 : Nat) (Option.none : Option Jvm.ClassFile.FieldType)) ∈ lw_all := lw_g (lw_at lw_m7 42 rfl) rfl
theorem q1576 : (Jvm.Cond.methodLink "SamovarModel" (212 : Nat) ({ cls := "SamovarModel", name := "joins", desc := "(II)V" } : Jvm.MethodName)) ∈ lw_all := lw_g (lw_at lw_m7 43 rfl) rfl
theorem q1577 : (Jvm.Cond.privateMethod ({ cls := "SamovarModel", name := "joins", desc := "(II)V" } : Jvm.MethodName)) ∈ lw_tbl := lw_at lw_m7 44 rfl
theorem q1578 : (Jvm.Cond.instanceMethod ({ cls := "SamovarModel", name := "joins", desc := "(II)V" } : Jvm.MethodName)) ∈ lw_all := lw_g (lw_at lw_m7 45 rfl) rfl
theorem q1579 : (Jvm.Cond.code ({ cls := "SamovarModel", name := "joins", desc := "(II)V" } : Jvm.MethodName) prog_15_method_33_code (3 : Nat) (Option.none : Option Jvm.ClassFile.FieldType)) ∈ lw_all := lw_g (lw_at lw_m7 46 rfl) rfl
theorem q1580 : (Jvm.Cond.methodLink "SamovarModel" (238 : Nat) ({ cls := "SamovarModel", name := "serves", desc := "(I)I" } : Jvm.MethodName)) ∈ lw_all := lw_g (lw_at lw_m7 47 rfl) rfl
theorem q1581 : (Jvm.Cond.privateMethod ({ cls := "SamovarModel", name := "serves", desc := "(I)I" } : Jvm.MethodName)) ∈ lw_tbl := lw_at lw_m7 48 rfl
theorem q1582 : (Jvm.Cond.instanceMethod ({ cls := "SamovarModel", name := "serves", desc := "(I)I" } : Jvm.MethodName)) ∈ lw_all := lw_g (lw_at lw_m7 49 rfl) rfl
theorem q1583 : (Jvm.Cond.code ({ cls := "SamovarModel", name := "serves", desc := "(I)I" } : Jvm.MethodName) prog_15_method_36_code (5 : Nat) (Option.some Jvm.ClassFile.FieldType.int)) ∈ lw_all := lw_g (lw_at lw_m7 50 rfl) rfl
theorem q1584 : (Jvm.Cond.methodLink "SamovarModel" (216 : Nat) ({ cls := "SamovarModel", name := "leaves", desc := "(I)V" } : Jvm.MethodName)) ∈ lw_all := lw_g (lw_at lw_m7 51 rfl) rfl
theorem q1585 : (Jvm.Cond.privateMethod ({ cls := "SamovarModel", name := "leaves", desc := "(I)V" } : Jvm.MethodName)) ∈ lw_tbl := lw_at lw_m7 52 rfl
theorem q1586 : (Jvm.Cond.instanceMethod ({ cls := "SamovarModel", name := "leaves", desc := "(I)V" } : Jvm.MethodName)) ∈ lw_all := lw_g (lw_at lw_m7 53 rfl) rfl
theorem q1587 : (Jvm.Cond.code ({ cls := "SamovarModel", name := "leaves", desc := "(I)V" } : Jvm.MethodName) prog_15_method_35_code (3 : Nat) (Option.none : Option Jvm.ClassFile.FieldType)) ∈ lw_all := lw_g (lw_at lw_m7 54 rfl) rfl
theorem q1588 : (Jvm.Cond.methodLink "SamovarModel" (241 : Nat) ({ cls := "SamovarModel", name := "goAway", desc := "(I)V" } : Jvm.MethodName)) ∈ lw_all := lw_g (lw_at lw_m7 55 rfl) rfl
theorem q1589 : (Jvm.Cond.privateMethod ({ cls := "SamovarModel", name := "goAway", desc := "(I)V" } : Jvm.MethodName)) ∈ lw_tbl := lw_at lw_m7 56 rfl
theorem q1590 : (Jvm.Cond.instanceMethod ({ cls := "SamovarModel", name := "goAway", desc := "(I)V" } : Jvm.MethodName)) ∈ lw_all := lw_g (lw_at lw_m7 57 rfl) rfl
theorem q1591 : (Jvm.Cond.code ({ cls := "SamovarModel", name := "goAway", desc := "(I)V" } : Jvm.MethodName) prog_15_method_37_code (4 : Nat) (Option.none : Option Jvm.ClassFile.FieldType)) ∈ lw_all := lw_g (lw_at lw_m7 58 rfl) rfl
theorem q1592 : (Jvm.Cond.methodLink "SamovarLaw" (64 : Nat) ({ cls := "SamovarModel", name := "is", desc := "(III)I" } : Jvm.MethodName)) ∈ lw_all := lw_g (lw_at lw_m7 59 rfl) rfl
theorem q1593 : (Jvm.Cond.instanceMethod ({ cls := "SamovarModel", name := "is", desc := "(III)I" } : Jvm.MethodName)) ∈ lw_all := lw_g (lw_at lw_m7 60 rfl) rfl
theorem q1594 : (Jvm.Cond.selects "SamovarModel" ({ cls := "SamovarModel", name := "is", desc := "(III)I" } : Jvm.MethodName) ({ cls := "SamovarModel", name := "is", desc := "(III)I" } : Jvm.MethodName)) ∈ lw_all := lw_g (lw_at lw_m7 61 rfl) rfl
theorem q1595 : (Jvm.Cond.code ({ cls := "SamovarModel", name := "is", desc := "(III)I" } : Jvm.MethodName) prog_15_method_44_code (4 : Nat) (Option.some Jvm.ClassFile.FieldType.int)) ∈ lw_all := lw_g (lw_at lw_m7 62 rfl) rfl
theorem q1596 : (Jvm.Cond.methodLink "SamovarModel" (259 : Nat) ({ cls := "SamovarModel", name := "isOf", desc := "(III)I" } : Jvm.MethodName)) ∈ lw_all := lw_g (lw_at lw_m7 63 rfl) rfl
theorem q1597 : (Jvm.Cond.privateMethod ({ cls := "SamovarModel", name := "isOf", desc := "(III)I" } : Jvm.MethodName)) ∈ lw_tbl := lw_at lw_m7 64 rfl
theorem q1598 : (Jvm.Cond.instanceMethod ({ cls := "SamovarModel", name := "isOf", desc := "(III)I" } : Jvm.MethodName)) ∈ lw_all := lw_g (lw_at lw_m7 65 rfl) rfl
theorem q1599 : (Jvm.Cond.code ({ cls := "SamovarModel", name := "isOf", desc := "(III)I" } : Jvm.MethodName) prog_15_method_43_code (4 : Nat) (Option.some Jvm.ClassFile.FieldType.int)) ∈ lw_all := lw_g (lw_at lw_m7 66 rfl) rfl
theorem q1600 : (Jvm.Cond.methodLink "SamovarLaw" (68 : Nat) ({ cls := "SamovarModel", name := "line", desc := "(I)I" } : Jvm.MethodName)) ∈ lw_all := lw_g (lw_at lw_m7 67 rfl) rfl
theorem q1601 : (Jvm.Cond.instanceMethod ({ cls := "SamovarModel", name := "line", desc := "(I)I" } : Jvm.MethodName)) ∈ lw_all := lw_g (lw_at lw_m7 68 rfl) rfl
theorem q1602 : (Jvm.Cond.selects "SamovarModel" ({ cls := "SamovarModel", name := "line", desc := "(I)I" } : Jvm.MethodName) ({ cls := "SamovarModel", name := "line", desc := "(I)I" } : Jvm.MethodName)) ∈ lw_all := lw_g (lw_at lw_m7 69 rfl) rfl
theorem q1603 : (Jvm.Cond.code ({ cls := "SamovarModel", name := "line", desc := "(I)I" } : Jvm.MethodName) prog_15_method_46_code (2 : Nat) (Option.some Jvm.ClassFile.FieldType.int)) ∈ lw_all := lw_g (lw_at lw_m7 70 rfl) rfl
theorem q1604 : (Jvm.Cond.methodLink "SamovarModel" (262 : Nat) ({ cls := "SamovarModel", name := "lineOf", desc := "(I)I" } : Jvm.MethodName)) ∈ lw_all := lw_g (lw_at lw_m7 71 rfl) rfl
theorem q1605 : (Jvm.Cond.privateMethod ({ cls := "SamovarModel", name := "lineOf", desc := "(I)I" } : Jvm.MethodName)) ∈ lw_tbl := lw_at lw_m7 72 rfl
theorem q1606 : (Jvm.Cond.instanceMethod ({ cls := "SamovarModel", name := "lineOf", desc := "(I)I" } : Jvm.MethodName)) ∈ lw_all := lw_g (lw_at lw_m7 73 rfl) rfl
theorem q1607 : (Jvm.Cond.code ({ cls := "SamovarModel", name := "lineOf", desc := "(I)I" } : Jvm.MethodName) prog_15_method_45_code (2 : Nat) (Option.some Jvm.ClassFile.FieldType.int)) ∈ lw_all := lw_g (lw_at lw_m7 74 rfl) rfl
theorem q1608 : (Jvm.Cond.methodLink "SamovarLaw" (72 : Nat) ({ cls := "SamovarModel", name := "sum", desc := "(I)I" } : Jvm.MethodName)) ∈ lw_all := lw_g (lw_at lw_m7 75 rfl) rfl
theorem q1609 : (Jvm.Cond.instanceMethod ({ cls := "SamovarModel", name := "sum", desc := "(I)I" } : Jvm.MethodName)) ∈ lw_all := lw_g (lw_at lw_m7 76 rfl) rfl
theorem q1610 : (Jvm.Cond.selects "SamovarModel" ({ cls := "SamovarModel", name := "sum", desc := "(I)I" } : Jvm.MethodName) ({ cls := "SamovarModel", name := "sum", desc := "(I)I" } : Jvm.MethodName)) ∈ lw_all := lw_g (lw_at lw_m7 77 rfl) rfl
theorem q1611 : (Jvm.Cond.code ({ cls := "SamovarModel", name := "sum", desc := "(I)I" } : Jvm.MethodName) prog_15_method_50_code (2 : Nat) (Option.some Jvm.ClassFile.FieldType.int)) ∈ lw_all := lw_g (lw_at lw_m7 78 rfl) rfl
theorem q1612 : (Jvm.Cond.methodLink "SamovarModel" (272 : Nat) ({ cls := "SamovarModel", name := "sumOf", desc := "(I)I" } : Jvm.MethodName)) ∈ lw_all := lw_g (lw_at lw_m7 79 rfl) rfl
theorem q1613 : (Jvm.Cond.privateMethod ({ cls := "SamovarModel", name := "sumOf", desc := "(I)I" } : Jvm.MethodName)) ∈ lw_tbl := lw_at lw_m7 80 rfl
theorem q1614 : (Jvm.Cond.instanceMethod ({ cls := "SamovarModel", name := "sumOf", desc := "(I)I" } : Jvm.MethodName)) ∈ lw_all := lw_g (lw_at lw_m7 81 rfl) rfl
theorem q1615 : (Jvm.Cond.code ({ cls := "SamovarModel", name := "sumOf", desc := "(I)I" } : Jvm.MethodName) prog_15_method_49_code (2 : Nat) (Option.some Jvm.ClassFile.FieldType.int)) ∈ lw_all := lw_g (lw_at lw_m7 82 rfl) rfl
theorem q1616 : (Jvm.Cond.methodLink "SamovarModel" (265 : Nat) ({ cls := "SamovarModel", name := "drunkNow", desc := "()I" } : Jvm.MethodName)) ∈ lw_all := lw_g (lw_at lw_m7 83 rfl) rfl
theorem q1617 : (Jvm.Cond.privateMethod ({ cls := "SamovarModel", name := "drunkNow", desc := "()I" } : Jvm.MethodName)) ∈ lw_tbl := lw_at lw_m7 84 rfl
theorem q1618 : (Jvm.Cond.instanceMethod ({ cls := "SamovarModel", name := "drunkNow", desc := "()I" } : Jvm.MethodName)) ∈ lw_all := lw_g (lw_at lw_m7 85 rfl) rfl
theorem q1619 : (Jvm.Cond.code ({ cls := "SamovarModel", name := "drunkNow", desc := "()I" } : Jvm.MethodName) prog_15_method_47_code (3 : Nat) (Option.some Jvm.ClassFile.FieldType.int)) ∈ lw_all := lw_g (lw_at lw_m7 86 rfl) rfl
theorem q1620 : (Jvm.Cond.methodLink "SamovarModel" (269 : Nat) ({ cls := "SamovarModel", name := "manyOf", desc := "(I)I" } : Jvm.MethodName)) ∈ lw_all := lw_g (lw_at lw_m7 87 rfl) rfl
theorem q1621 : (Jvm.Cond.privateMethod ({ cls := "SamovarModel", name := "manyOf", desc := "(I)I" } : Jvm.MethodName)) ∈ lw_tbl := lw_at lw_m7 88 rfl
theorem q1622 : (Jvm.Cond.instanceMethod ({ cls := "SamovarModel", name := "manyOf", desc := "(I)I" } : Jvm.MethodName)) ∈ lw_all := lw_g (lw_at lw_m7 89 rfl) rfl
theorem q1623 : (Jvm.Cond.code ({ cls := "SamovarModel", name := "manyOf", desc := "(I)I" } : Jvm.MethodName) prog_15_method_48_code (4 : Nat) (Option.some Jvm.ClassFile.FieldType.int)) ∈ lw_all := lw_g (lw_at lw_m7 90 rfl) rfl
theorem q1624 : (Jvm.Cond.methodLink "SamovarLaw" (76 : Nat) ({ cls := "SamovarModel", name := "first", desc := "()I" } : Jvm.MethodName)) ∈ lw_all := lw_g (lw_at lw_m7 91 rfl) rfl
theorem q1625 : (Jvm.Cond.instanceMethod ({ cls := "SamovarModel", name := "first", desc := "()I" } : Jvm.MethodName)) ∈ lw_all := lw_g (lw_at lw_m7 92 rfl) rfl
theorem q1626 : (Jvm.Cond.selects "SamovarModel" ({ cls := "SamovarModel", name := "first", desc := "()I" } : Jvm.MethodName) ({ cls := "SamovarModel", name := "first", desc := "()I" } : Jvm.MethodName)) ∈ lw_all := lw_g (lw_at lw_m7 93 rfl) rfl
theorem q1627 : (Jvm.Cond.code ({ cls := "SamovarModel", name := "first", desc := "()I" } : Jvm.MethodName) prog_15_method_52_code (1 : Nat) (Option.some Jvm.ClassFile.FieldType.int)) ∈ lw_all := lw_g (lw_at lw_m7 94 rfl) rfl
theorem q1628 : (Jvm.Cond.methodLink "SamovarModel" (275 : Nat) ({ cls := "SamovarModel", name := "firstOf", desc := "()I" } : Jvm.MethodName)) ∈ lw_all := lw_g (lw_at lw_m7 95 rfl) rfl
theorem q1629 : (Jvm.Cond.privateMethod ({ cls := "SamovarModel", name := "firstOf", desc := "()I" } : Jvm.MethodName)) ∈ lw_tbl := lw_at lw_m7 96 rfl
theorem q1630 : (Jvm.Cond.instanceMethod ({ cls := "SamovarModel", name := "firstOf", desc := "()I" } : Jvm.MethodName)) ∈ lw_all := lw_g (lw_at lw_m7 97 rfl) rfl
theorem q1631 : (Jvm.Cond.code ({ cls := "SamovarModel", name := "firstOf", desc := "()I" } : Jvm.MethodName) prog_15_method_51_code (1 : Nat) (Option.some Jvm.ClassFile.FieldType.int)) ∈ lw_all := lw_g (lw_at lw_m7 98 rfl) rfl
theorem q1632 : (Jvm.Cond.methodLink "SamovarLaw" (80 : Nat) ({ cls := "SamovarModel", name := "hottest", desc := "(I)I" } : Jvm.MethodName)) ∈ lw_all := lw_g (lw_at lw_m7 99 rfl) rfl
theorem q1633 : (Jvm.Cond.instanceMethod ({ cls := "SamovarModel", name := "hottest", desc := "(I)I" } : Jvm.MethodName)) ∈ lw_all := lw_g (lw_at lw_m7 100 rfl) rfl
theorem q1634 : (Jvm.Cond.selects "SamovarModel" ({ cls := "SamovarModel", name := "hottest", desc := "(I)I" } : Jvm.MethodName) ({ cls := "SamovarModel", name := "hottest", desc := "(I)I" } : Jvm.MethodName)) ∈ lw_all := lw_g (lw_at lw_m7 101 rfl) rfl
theorem q1635 : (Jvm.Cond.code ({ cls := "SamovarModel", name := "hottest", desc := "(I)I" } : Jvm.MethodName) prog_15_method_54_code (2 : Nat) (Option.some Jvm.ClassFile.FieldType.int)) ∈ lw_all := lw_g (lw_at lw_m7 102 rfl) rfl
theorem q1636 : (Jvm.Cond.methodLink "SamovarModel" (278 : Nat) ({ cls := "SamovarModel", name := "hottestOf", desc := "(I)I" } : Jvm.MethodName)) ∈ lw_all := lw_g (lw_at lw_m7 103 rfl) rfl
theorem q1637 : (Jvm.Cond.privateMethod ({ cls := "SamovarModel", name := "hottestOf", desc := "(I)I" } : Jvm.MethodName)) ∈ lw_tbl := lw_at lw_m7 104 rfl
theorem q1638 : (Jvm.Cond.instanceMethod ({ cls := "SamovarModel", name := "hottestOf", desc := "(I)I" } : Jvm.MethodName)) ∈ lw_all := lw_g (lw_at lw_m7 105 rfl) rfl
theorem q1639 : (Jvm.Cond.code ({ cls := "SamovarModel", name := "hottestOf", desc := "(I)I" } : Jvm.MethodName) prog_15_method_53_code (4 : Nat) (Option.some Jvm.ClassFile.FieldType.int)) ∈ lw_all := lw_g (lw_at lw_m7 106 rfl) rfl
theorem q1640 : (Jvm.Cond.methodLink "SamovarLaw" (84 : Nat) ({ cls := "SamovarModel", name := "waited", desc := "(I)I" } : Jvm.MethodName)) ∈ lw_all := lw_g (lw_at lw_m7 107 rfl) rfl
theorem q1641 : (Jvm.Cond.instanceMethod ({ cls := "SamovarModel", name := "waited", desc := "(I)I" } : Jvm.MethodName)) ∈ lw_all := lw_g (lw_at lw_m7 108 rfl) rfl
theorem q1642 : (Jvm.Cond.selects "SamovarModel" ({ cls := "SamovarModel", name := "waited", desc := "(I)I" } : Jvm.MethodName) ({ cls := "SamovarModel", name := "waited", desc := "(I)I" } : Jvm.MethodName)) ∈ lw_all := lw_g (lw_at lw_m7 109 rfl) rfl
theorem q1643 : (Jvm.Cond.code ({ cls := "SamovarModel", name := "waited", desc := "(I)I" } : Jvm.MethodName) prog_15_method_56_code (2 : Nat) (Option.some Jvm.ClassFile.FieldType.int)) ∈ lw_all := lw_g (lw_at lw_m7 110 rfl) rfl
theorem q1644 : (Jvm.Cond.methodLink "SamovarModel" (281 : Nat) ({ cls := "SamovarModel", name := "waitedOf", desc := "(I)I" } : Jvm.MethodName)) ∈ lw_all := lw_g (lw_at lw_m7 111 rfl) rfl
theorem q1645 : (Jvm.Cond.privateMethod ({ cls := "SamovarModel", name := "waitedOf", desc := "(I)I" } : Jvm.MethodName)) ∈ lw_tbl := lw_at lw_m7 112 rfl
theorem q1646 : (Jvm.Cond.instanceMethod ({ cls := "SamovarModel", name := "waitedOf", desc := "(I)I" } : Jvm.MethodName)) ∈ lw_all := lw_g (lw_at lw_m7 113 rfl) rfl
theorem q1647 : (Jvm.Cond.code ({ cls := "SamovarModel", name := "waitedOf", desc := "(I)I" } : Jvm.MethodName) prog_15_method_55_code (2 : Nat) (Option.some Jvm.ClassFile.FieldType.int)) ∈ lw_all := lw_g (lw_at lw_m7 114 rfl) rfl
theorem q1648 : (Jvm.Cond.methodLink "SamovarLaw" (88 : Nat) ({ cls := "SamovarModel", name := "thirst", desc := "()I" } : Jvm.MethodName)) ∈ lw_all := lw_g (lw_at lw_m7 115 rfl) rfl
theorem q1649 : (Jvm.Cond.instanceMethod ({ cls := "SamovarModel", name := "thirst", desc := "()I" } : Jvm.MethodName)) ∈ lw_all := lw_g (lw_at lw_m7 116 rfl) rfl
theorem q1650 : (Jvm.Cond.selects "SamovarModel" ({ cls := "SamovarModel", name := "thirst", desc := "()I" } : Jvm.MethodName) ({ cls := "SamovarModel", name := "thirst", desc := "()I" } : Jvm.MethodName)) ∈ lw_all := lw_g (lw_at lw_m7 117 rfl) rfl
theorem q1651 : (Jvm.Cond.code ({ cls := "SamovarModel", name := "thirst", desc := "()I" } : Jvm.MethodName) prog_15_method_58_code (1 : Nat) (Option.some Jvm.ClassFile.FieldType.int)) ∈ lw_all := lw_g (lw_at lw_m7 118 rfl) rfl
theorem q1652 : (Jvm.Cond.methodLink "SamovarModel" (284 : Nat) ({ cls := "SamovarModel", name := "thirstOf", desc := "()I" } : Jvm.MethodName)) ∈ lw_all := lw_g (lw_at lw_m7 119 rfl) rfl
theorem q1653 : (Jvm.Cond.privateMethod ({ cls := "SamovarModel", name := "thirstOf", desc := "()I" } : Jvm.MethodName)) ∈ lw_tbl := lw_at lw_m7 120 rfl
theorem q1654 : (Jvm.Cond.instanceMethod ({ cls := "SamovarModel", name := "thirstOf", desc := "()I" } : Jvm.MethodName)) ∈ lw_all := lw_g (lw_at lw_m7 121 rfl) rfl
theorem q1655 : (Jvm.Cond.code ({ cls := "SamovarModel", name := "thirstOf", desc := "()I" } : Jvm.MethodName) prog_15_method_57_code (3 : Nat) (Option.some Jvm.ClassFile.FieldType.int)) ∈ lw_all := lw_g (lw_at lw_m7 122 rfl) rfl
theorem q1656 : (Jvm.Cond.methodLink "SamovarLaw" (92 : Nat) ({ cls := "SamovarModel", name := "better", desc := "(II)I" } : Jvm.MethodName)) ∈ lw_all := lw_g (lw_at lw_m7 123 rfl) rfl
theorem q1657 : (Jvm.Cond.instanceMethod ({ cls := "SamovarModel", name := "better", desc := "(II)I" } : Jvm.MethodName)) ∈ lw_all := lw_g (lw_at lw_m7 124 rfl) rfl
theorem q1658 : (Jvm.Cond.selects "SamovarModel" ({ cls := "SamovarModel", name := "better", desc := "(II)I" } : Jvm.MethodName) ({ cls := "SamovarModel", name := "better", desc := "(II)I" } : Jvm.MethodName)) ∈ lw_all := lw_g (lw_at lw_m7 125 rfl) rfl
theorem q1659 : (Jvm.Cond.code ({ cls := "SamovarModel", name := "better", desc := "(II)I" } : Jvm.MethodName) prog_15_method_62_code (3 : Nat) (Option.some Jvm.ClassFile.FieldType.int)) ∈ lw_all := lw_g (lw_at lw_m7 126 rfl) rfl
theorem q1660 : (Jvm.Cond.methodLink "SamovarModel" (299 : Nat) ({ cls := "SamovarModel", name := "betterOf", desc := "(II)I" } : Jvm.MethodName)) ∈ lw_all := lw_g (lw_at lw_m7 127 rfl) rfl
theorem q1661 : (Jvm.Cond.privateMethod ({ cls := "SamovarModel", name := "betterOf", desc := "(II)I" } : Jvm.MethodName)) ∈ lw_tbl := lw_at lw_m7 128 rfl
theorem q1662 : (Jvm.Cond.instanceMethod ({ cls := "SamovarModel", name := "betterOf", desc := "(II)I" } : Jvm.MethodName)) ∈ lw_all := lw_g (lw_at lw_m7 129 rfl) rfl
theorem q1663 : (Jvm.Cond.code ({ cls := "SamovarModel", name := "betterOf", desc := "(II)I" } : Jvm.MethodName) prog_15_method_61_code (5 : Nat) (Option.some Jvm.ClassFile.FieldType.int)) ∈ lw_all := lw_g (lw_at lw_m7 130 rfl) rfl
theorem q1664 : (Jvm.Cond.methodLink "SamovarModel" (293 : Nat) ({ cls := "SamovarModel", name := "starts", desc := "()V" } : Jvm.MethodName)) ∈ lw_all := lw_g (lw_at lw_m7 131 rfl) rfl
theorem q1665 : (Jvm.Cond.privateMethod ({ cls := "SamovarModel", name := "starts", desc := "()V" } : Jvm.MethodName)) ∈ lw_tbl := lw_at lw_m7 132 rfl
theorem q1666 : (Jvm.Cond.instanceMethod ({ cls := "SamovarModel", name := "starts", desc := "()V" } : Jvm.MethodName)) ∈ lw_all := lw_g (lw_at lw_m7 133 rfl) rfl
theorem q1667 : (Jvm.Cond.code ({ cls := "SamovarModel", name := "starts", desc := "()V" } : Jvm.MethodName) prog_15_method_59_code (1 : Nat) (Option.none : Option Jvm.ClassFile.FieldType)) ∈ lw_all := lw_g (lw_at lw_m7 134 rfl) rfl
theorem q1668 : (Jvm.Cond.methodLink "SamovarModel" (296 : Nat) ({ cls := "SamovarModel", name := "tries", desc := "(I)V" } : Jvm.MethodName)) ∈ lw_all := lw_g (lw_at lw_m7 135 rfl) rfl
theorem q1669 : (Jvm.Cond.privateMethod ({ cls := "SamovarModel", name := "tries", desc := "(I)V" } : Jvm.MethodName)) ∈ lw_tbl := lw_at lw_m7 136 rfl
theorem q1670 : (Jvm.Cond.instanceMethod ({ cls := "SamovarModel", name := "tries", desc := "(I)V" } : Jvm.MethodName)) ∈ lw_all := lw_g (lw_at lw_m7 137 rfl) rfl
theorem q1671 : (Jvm.Cond.code ({ cls := "SamovarModel", name := "tries", desc := "(I)V" } : Jvm.MethodName) prog_15_method_60_code (3 : Nat) (Option.none : Option Jvm.ClassFile.FieldType)) ∈ lw_all := lw_g (lw_at lw_m7 138 rfl) rfl
theorem q1672 : (Jvm.Cond.methodLink "SamovarLaw" (96 : Nat) ({ cls := "SamovarModel", name := "fill", desc := "(I)I" } : Jvm.MethodName)) ∈ lw_all := lw_g (lw_at lw_m7 139 rfl) rfl
theorem q1673 : (Jvm.Cond.instanceMethod ({ cls := "SamovarModel", name := "fill", desc := "(I)I" } : Jvm.MethodName)) ∈ lw_all := lw_g (lw_at lw_m7 140 rfl) rfl
theorem q1674 : (Jvm.Cond.selects "SamovarModel" ({ cls := "SamovarModel", name := "fill", desc := "(I)I" } : Jvm.MethodName) ({ cls := "SamovarModel", name := "fill", desc := "(I)I" } : Jvm.MethodName)) ∈ lw_all := lw_g (lw_at lw_m7 141 rfl) rfl
theorem q1675 : (Jvm.Cond.code ({ cls := "SamovarModel", name := "fill", desc := "(I)I" } : Jvm.MethodName) prog_15_method_64_code (2 : Nat) (Option.some Jvm.ClassFile.FieldType.int)) ∈ lw_all := lw_g (lw_at lw_m7 142 rfl) rfl
theorem q1676 : (Jvm.Cond.methodLink "SamovarModel" (302 : Nat) ({ cls := "SamovarModel", name := "fillOf", desc := "(I)I" } : Jvm.MethodName)) ∈ lw_all := lw_g (lw_at lw_m7 143 rfl) rfl
theorem q1677 : (Jvm.Cond.privateMethod ({ cls := "SamovarModel", name := "fillOf", desc := "(I)I" } : Jvm.MethodName)) ∈ lw_tbl := lw_at lw_m7 144 rfl
theorem q1678 : (Jvm.Cond.instanceMethod ({ cls := "SamovarModel", name := "fillOf", desc := "(I)I" } : Jvm.MethodName)) ∈ lw_all := lw_g (lw_at lw_m7 145 rfl) rfl
theorem q1679 : (Jvm.Cond.code ({ cls := "SamovarModel", name := "fillOf", desc := "(I)I" } : Jvm.MethodName) prog_15_method_63_code (3 : Nat) (Option.some Jvm.ClassFile.FieldType.int)) ∈ lw_all := lw_g (lw_at lw_m7 146 rfl) rfl
theorem q1680 : (Jvm.Cond.methodLink "SamovarLaw" (100 : Nat) ({ cls := "SamovarModel", name := "come", desc := "(II)I" } : Jvm.MethodName)) ∈ lw_all := lw_g (lw_at lw_m7 147 rfl) rfl
theorem q1681 : (Jvm.Cond.instanceMethod ({ cls := "SamovarModel", name := "come", desc := "(II)I" } : Jvm.MethodName)) ∈ lw_all := lw_g (lw_at lw_m7 148 rfl) rfl
theorem q1682 : (Jvm.Cond.selects "SamovarModel" ({ cls := "SamovarModel", name := "come", desc := "(II)I" } : Jvm.MethodName) ({ cls := "SamovarModel", name := "come", desc := "(II)I" } : Jvm.MethodName)) ∈ lw_all := lw_g (lw_at lw_m7 149 rfl) rfl
theorem q1683 : (Jvm.Cond.code ({ cls := "SamovarModel", name := "come", desc := "(II)I" } : Jvm.MethodName) prog_15_method_66_code (3 : Nat) (Option.some Jvm.ClassFile.FieldType.int)) ∈ lw_all := lw_g (lw_at lw_m7 150 rfl) rfl
theorem q1684 : (Jvm.Cond.methodLink "SamovarModel" (305 : Nat) ({ cls := "SamovarModel", name := "comeOf", desc := "(II)I" } : Jvm.MethodName)) ∈ lw_all := lw_g (lw_at lw_m7 151 rfl) rfl
theorem q1685 : (Jvm.Cond.privateMethod ({ cls := "SamovarModel", name := "comeOf", desc := "(II)I" } : Jvm.MethodName)) ∈ lw_tbl := lw_at lw_m7 152 rfl
theorem q1686 : (Jvm.Cond.instanceMethod ({ cls := "SamovarModel", name := "comeOf", desc := "(II)I" } : Jvm.MethodName)) ∈ lw_all := lw_g (lw_at lw_m7 153 rfl) rfl
theorem q1687 : (Jvm.Cond.code ({ cls := "SamovarModel", name := "comeOf", desc := "(II)I" } : Jvm.MethodName) prog_15_method_65_code (4 : Nat) (Option.some Jvm.ClassFile.FieldType.int)) ∈ lw_all := lw_g (lw_at lw_m7 154 rfl) rfl
theorem q1688 : (Jvm.Cond.methodLink "SamovarLaw" (104 : Nat) ({ cls := "SamovarModel", name := "spare", desc := "(I)I" } : Jvm.MethodName)) ∈ lw_all := lw_g (lw_at lw_m7 155 rfl) rfl
theorem q1689 : (Jvm.Cond.instanceMethod ({ cls := "SamovarModel", name := "spare", desc := "(I)I" } : Jvm.MethodName)) ∈ lw_all := lw_g (lw_at lw_m7 156 rfl) rfl
theorem q1690 : (Jvm.Cond.selects "SamovarModel" ({ cls := "SamovarModel", name := "spare", desc := "(I)I" } : Jvm.MethodName) ({ cls := "SamovarModel", name := "spare", desc := "(I)I" } : Jvm.MethodName)) ∈ lw_all := lw_g (lw_at lw_m7 157 rfl) rfl
theorem q1691 : (Jvm.Cond.code ({ cls := "SamovarModel", name := "spare", desc := "(I)I" } : Jvm.MethodName) prog_15_method_70_code (2 : Nat) (Option.some Jvm.ClassFile.FieldType.int)) ∈ lw_all := lw_g (lw_at lw_m7 158 rfl) rfl
theorem q1692 : (Jvm.Cond.methodLink "SamovarModel" (311 : Nat) ({ cls := "SamovarModel", name := "spareBy", desc := "()I" } : Jvm.MethodName)) ∈ lw_all := lw_g (lw_at lw_m7 159 rfl) rfl
theorem q1693 : (Jvm.Cond.privateMethod ({ cls := "SamovarModel", name := "spareBy", desc := "()I" } : Jvm.MethodName)) ∈ lw_tbl := lw_at lw_m7 160 rfl
theorem q1694 : (Jvm.Cond.instanceMethod ({ cls := "SamovarModel", name := "spareBy", desc := "()I" } : Jvm.MethodName)) ∈ lw_all := lw_g (lw_at lw_m7 161 rfl) rfl
theorem q1695 : (Jvm.Cond.code ({ cls := "SamovarModel", name := "spareBy", desc := "()I" } : Jvm.MethodName) prog_15_method_68_code (3 : Nat) (Option.some Jvm.ClassFile.FieldType.int)) ∈ lw_all := lw_g (lw_at lw_m7 162 rfl) rfl
theorem q1696 : (Jvm.Cond.methodLink "SamovarModel" (308 : Nat) ({ cls := "SamovarModel", name := "isSpared", desc := "(I)Z" } : Jvm.MethodName)) ∈ lw_all := lw_g (lw_at lw_m7 163 rfl) rfl
theorem q1697 : (Jvm.Cond.privateMethod ({ cls := "SamovarModel", name := "isSpared", desc := "(I)Z" } : Jvm.MethodName)) ∈ lw_tbl := lw_at lw_m7 164 rfl
theorem q1698 : (Jvm.Cond.instanceMethod ({ cls := "SamovarModel", name := "isSpared", desc := "(I)Z" } : Jvm.MethodName)) ∈ lw_all := lw_g (lw_at lw_m7 165 rfl) rfl
theorem q1699 : (Jvm.Cond.code ({ cls := "SamovarModel", name := "isSpared", desc := "(I)Z" } : Jvm.MethodName) prog_15_method_67_code (2 : Nat) (Option.some Jvm.ClassFile.FieldType.boolean)) ∈ lw_all := lw_g (lw_at lw_m7 166 rfl) rfl
theorem q1700 : (Jvm.Cond.methodLink "SamovarModel" (314 : Nat) ({ cls := "SamovarModel", name := "ofRow", desc := "(II)I" } : Jvm.MethodName)) ∈ lw_all := lw_g (lw_at lw_m7 167 rfl) rfl
theorem q1701 : (Jvm.Cond.privateMethod ({ cls := "SamovarModel", name := "ofRow", desc := "(II)I" } : Jvm.MethodName)) ∈ lw_tbl := lw_at lw_m7 168 rfl
theorem q1702 : (Jvm.Cond.instanceMethod ({ cls := "SamovarModel", name := "ofRow", desc := "(II)I" } : Jvm.MethodName)) ∈ lw_all := lw_g (lw_at lw_m7 169 rfl) rfl
theorem q1703 : (Jvm.Cond.code ({ cls := "SamovarModel", name := "ofRow", desc := "(II)I" } : Jvm.MethodName) prog_15_method_69_code (3 : Nat) (Option.some Jvm.ClassFile.FieldType.int)) ∈ lw_all := lw_g (lw_at lw_m7 170 rfl) rfl
theorem q1704 : (Jvm.Cond.methodLink "SamovarLaw" (108 : Nat) ({ cls := "SamovarModel", name := "seen", desc := "(II)I" } : Jvm.MethodName)) ∈ lw_all := lw_g (lw_at lw_m7 171 rfl) rfl
theorem q1705 : (Jvm.Cond.instanceMethod ({ cls := "SamovarModel", name := "seen", desc := "(II)I" } : Jvm.MethodName)) ∈ lw_all := lw_g (lw_at lw_m7 172 rfl) rfl
theorem q1706 : (Jvm.Cond.selects "SamovarModel" ({ cls := "SamovarModel", name := "seen", desc := "(II)I" } : Jvm.MethodName) ({ cls := "SamovarModel", name := "seen", desc := "(II)I" } : Jvm.MethodName)) ∈ lw_all := lw_g (lw_at lw_m7 173 rfl) rfl
theorem q1707 : (Jvm.Cond.code ({ cls := "SamovarModel", name := "seen", desc := "(II)I" } : Jvm.MethodName) prog_15_method_71_code (3 : Nat) (Option.some Jvm.ClassFile.FieldType.int)) ∈ lw_all := lw_g (lw_at lw_m7 174 rfl) rfl
theorem q1708 : (Jvm.Cond.methodLink "SamovarLaw" (112 : Nat) ({ cls := "SamovarModel", name := "forget", desc := "()I" } : Jvm.MethodName)) ∈ lw_all := lw_g (lw_at lw_m7 175 rfl) rfl
theorem q1709 : (Jvm.Cond.instanceMethod ({ cls := "SamovarModel", name := "forget", desc := "()I" } : Jvm.MethodName)) ∈ lw_all := lw_g (lw_at lw_m7 176 rfl) rfl
theorem q1710 : (Jvm.Cond.selects "SamovarModel" ({ cls := "SamovarModel", name := "forget", desc := "()I" } : Jvm.MethodName) ({ cls := "SamovarModel", name := "forget", desc := "()I" } : Jvm.MethodName)) ∈ lw_all := lw_g (lw_at lw_m7 177 rfl) rfl
theorem q1711 : (Jvm.Cond.code ({ cls := "SamovarModel", name := "forget", desc := "()I" } : Jvm.MethodName) prog_15_method_72_code (2 : Nat) (Option.some Jvm.ClassFile.FieldType.int)) ∈ lw_all := lw_g (lw_at lw_m7 178 rfl) rfl
theorem q1712 : (Jvm.Cond.methodLink "SamovarLaw" (116 : Nat) ({ cls := "SamovarModel", name := "never", desc := "()I" } : Jvm.MethodName)) ∈ lw_all := lw_g (lw_at lw_m7 179 rfl) rfl
theorem q1713 : (Jvm.Cond.instanceMethod ({ cls := "SamovarModel", name := "never", desc := "()I" } : Jvm.MethodName)) ∈ lw_all := lw_g (lw_at lw_m7 180 rfl) rfl
theorem q1714 : (Jvm.Cond.selects "SamovarModel" ({ cls := "SamovarModel", name := "never", desc := "()I" } : Jvm.MethodName) ({ cls := "SamovarModel", name := "never", desc := "()I" } : Jvm.MethodName)) ∈ lw_all := lw_g (lw_at lw_m7 181 rfl) rfl
theorem q1715 : (Jvm.Cond.code ({ cls := "SamovarModel", name := "never", desc := "()I" } : Jvm.MethodName) prog_15_method_75_code (1 : Nat) (Option.some Jvm.ClassFile.FieldType.int)) ∈ lw_all := lw_g (lw_at lw_m7 182 rfl) rfl
theorem q1716 : (Jvm.Cond.methodLink "SamovarModel" (324 : Nat) ({ cls := "SamovarModel", name := "neverNow", desc := "()I" } : Jvm.MethodName)) ∈ lw_all := lw_g (lw_at lw_m7 183 rfl) rfl
theorem q1717 : (Jvm.Cond.privateMethod ({ cls := "SamovarModel", name := "neverNow", desc := "()I" } : Jvm.MethodName)) ∈ lw_tbl := lw_at lw_m7 184 rfl
theorem q1718 : (Jvm.Cond.instanceMethod ({ cls := "SamovarModel", name := "neverNow", desc := "()I" } : Jvm.MethodName)) ∈ lw_all := lw_g (lw_at lw_m7 185 rfl) rfl
theorem q1719 : (Jvm.Cond.code ({ cls := "SamovarModel", name := "neverNow", desc := "()I" } : Jvm.MethodName) prog_15_method_74_code (3 : Nat) (Option.some Jvm.ClassFile.FieldType.int)) ∈ lw_all := lw_g (lw_at lw_m7 186 rfl) rfl
theorem q1720 : (Jvm.Cond.methodLink "SamovarModel" (320 : Nat) ({ cls := "SamovarModel", name := "isSeen", desc := "()Z" } : Jvm.MethodName)) ∈ lw_all := lw_g (lw_at lw_m7 187 rfl) rfl
theorem q1721 : (Jvm.Cond.privateMethod ({ cls := "SamovarModel", name := "isSeen", desc := "()Z" } : Jvm.MethodName)) ∈ lw_tbl := lw_at lw_m7 188 rfl
theorem q1722 : (Jvm.Cond.instanceMethod ({ cls := "SamovarModel", name := "isSeen", desc := "()Z" } : Jvm.MethodName)) ∈ lw_all := lw_g (lw_at lw_m7 189 rfl) rfl
theorem q1723 : (Jvm.Cond.code ({ cls := "SamovarModel", name := "isSeen", desc := "()Z" } : Jvm.MethodName) prog_15_method_73_code (3 : Nat) (Option.some Jvm.ClassFile.FieldType.boolean)) ∈ lw_all := lw_g (lw_at lw_m7 190 rfl) rfl
theorem q1724 : (Jvm.Cond.methodLink "SamovarLaw" (120 : Nat) ({ cls := "SamovarModel", name := "waters", desc := "()I" } : Jvm.MethodName)) ∈ lw_all := lw_g (lw_at lw_m7 191 rfl) rfl
theorem q1725 : (Jvm.Cond.instanceMethod ({ cls := "SamovarModel", name := "waters", desc := "()I" } : Jvm.MethodName)) ∈ lw_all := lw_g (lw_at lw_m7 192 rfl) rfl
theorem q1726 : (Jvm.Cond.selects "SamovarModel" ({ cls := "SamovarModel", name := "waters", desc := "()I" } : Jvm.MethodName) ({ cls := "SamovarModel", name := "waters", desc := "()I" } : Jvm.MethodName)) ∈ lw_all := lw_g (lw_at lw_m7 193 rfl) rfl
theorem q1727 : (Jvm.Cond.code ({ cls := "SamovarModel", name := "waters", desc := "()I" } : Jvm.MethodName) prog_15_method_77_code (1 : Nat) (Option.some Jvm.ClassFile.FieldType.int)) ∈ lw_all := lw_g (lw_at lw_m7 194 rfl) rfl
theorem q1728 : (Jvm.Cond.methodLink "SamovarModel" (327 : Nat) ({ cls := "SamovarModel", name := "watersBy", desc := "()I" } : Jvm.MethodName)) ∈ lw_all := lw_g (lw_at lw_m7 195 rfl) rfl
theorem q1729 : (Jvm.Cond.privateMethod ({ cls := "SamovarModel", name := "watersBy", desc := "()I" } : Jvm.MethodName)) ∈ lw_tbl := lw_at lw_m7 196 rfl
theorem q1730 : (Jvm.Cond.instanceMethod ({ cls := "SamovarModel", name := "watersBy", desc := "()I" } : Jvm.MethodName)) ∈ lw_all := lw_g (lw_at lw_m7 197 rfl) rfl
theorem q1731 : (Jvm.Cond.code ({ cls := "SamovarModel", name := "watersBy", desc := "()I" } : Jvm.MethodName) prog_15_method_76_code (4 : Nat) (Option.some Jvm.ClassFile.FieldType.int)) ∈ lw_all := lw_g (lw_at lw_m7 198 rfl) rfl
theorem q1732 : (Jvm.Cond.methodLink "SamovarLaw" (124 : Nat) ({ cls := "SamovarModel", name := "kind", desc := "(I)I" } : Jvm.MethodName)) ∈ lw_all := lw_g (lw_at lw_m7 199 rfl) rfl
theorem q1733 : (Jvm.Cond.instanceMethod ({ cls := "SamovarModel", name := "kind", desc := "(I)I" } : Jvm.MethodName)) ∈ lw_all := lw_g (lw_at lw_m7 200 rfl) rfl
theorem q1734 : (Jvm.Cond.selects "SamovarModel" ({ cls := "SamovarModel", name := "kind", desc := "(I)I" } : Jvm.MethodName) ({ cls := "SamovarModel", name := "kind", desc := "(I)I" } : Jvm.MethodName)) ∈ lw_all := lw_g (lw_at lw_m7 201 rfl) rfl
theorem q1735 : (Jvm.Cond.code ({ cls := "SamovarModel", name := "kind", desc := "(I)I" } : Jvm.MethodName) prog_15_method_79_code (2 : Nat) (Option.some Jvm.ClassFile.FieldType.int)) ∈ lw_all := lw_g (lw_at lw_m7 202 rfl) rfl
theorem q1736 : (Jvm.Cond.methodLink "SamovarModel" (330 : Nat) ({ cls := "SamovarModel", name := "kindsBy", desc := "(I)I" } : Jvm.MethodName)) ∈ lw_all := lw_g (lw_at lw_m7 203 rfl) rfl
theorem q1737 : (Jvm.Cond.privateMethod ({ cls := "SamovarModel", name := "kindsBy", desc := "(I)I" } : Jvm.MethodName)) ∈ lw_tbl := lw_at lw_m7 204 rfl
theorem q1738 : (Jvm.Cond.instanceMethod ({ cls := "SamovarModel", name := "kindsBy", desc := "(I)I" } : Jvm.MethodName)) ∈ lw_all := lw_g (lw_at lw_m7 205 rfl) rfl
theorem q1739 : (Jvm.Cond.code ({ cls := "SamovarModel", name := "kindsBy", desc := "(I)I" } : Jvm.MethodName) prog_15_method_78_code (5 : Nat) (Option.some Jvm.ClassFile.FieldType.int)) ∈ lw_all := lw_g (lw_at lw_m7 206 rfl) rfl
theorem q1740 : (Jvm.Cond.methodLink "SamovarLaw" (128 : Nat) ({ cls := "SamovarModel", name := "ask", desc := "()I" } : Jvm.MethodName)) ∈ lw_all := lw_g (lw_at lw_m7 207 rfl) rfl
theorem q1741 : (Jvm.Cond.instanceMethod ({ cls := "SamovarModel", name := "ask", desc := "()I" } : Jvm.MethodName)) ∈ lw_all := lw_g (lw_at lw_m7 208 rfl) rfl
theorem q1742 : (Jvm.Cond.selects "SamovarModel" ({ cls := "SamovarModel", name := "ask", desc := "()I" } : Jvm.MethodName) ({ cls := "SamovarModel", name := "ask", desc := "()I" } : Jvm.MethodName)) ∈ lw_all := lw_g (lw_at lw_m7 209 rfl) rfl
theorem q1743 : (Jvm.Cond.code ({ cls := "SamovarModel", name := "ask", desc := "()I" } : Jvm.MethodName) prog_15_method_82_code (1 : Nat) (Option.some Jvm.ClassFile.FieldType.int)) ∈ lw_all := lw_g (lw_at lw_m7 210 rfl) rfl
theorem q1744 : (Jvm.Cond.methodLink "SamovarModel" (336 : Nat) ({ cls := "SamovarModel", name := "askOf", desc := "()I" } : Jvm.MethodName)) ∈ lw_all := lw_g (lw_at lw_m7 211 rfl) rfl
theorem q1745 : (Jvm.Cond.privateMethod ({ cls := "SamovarModel", name := "askOf", desc := "()I" } : Jvm.MethodName)) ∈ lw_tbl := lw_at lw_m7 212 rfl
theorem q1746 : (Jvm.Cond.instanceMethod ({ cls := "SamovarModel", name := "askOf", desc := "()I" } : Jvm.MethodName)) ∈ lw_all := lw_g (lw_at lw_m7 213 rfl) rfl
theorem q1747 : (Jvm.Cond.code ({ cls := "SamovarModel", name := "askOf", desc := "()I" } : Jvm.MethodName) prog_15_method_81_code (9 : Nat) (Option.some Jvm.ClassFile.FieldType.int)) ∈ lw_all := lw_g (lw_at lw_m7 214 rfl) rfl
theorem q1748 : (Jvm.Cond.methodLink "SamovarModel" (333 : Nat) ({ cls := "SamovarModel", name := "many", desc := "(I)I" } : Jvm.MethodName)) ∈ lw_all := lw_g (lw_at lw_m7 215 rfl) rfl
theorem q1749 : (Jvm.Cond.static ({ cls := "SamovarModel", name := "many", desc := "(I)I" } : Jvm.MethodName)) ∈ lw_all := lw_g (lw_at lw_m7 216 rfl) rfl
theorem q1750 : (Jvm.Cond.code ({ cls := "SamovarModel", name := "many", desc := "(I)I" } : Jvm.MethodName) prog_15_method_80_code (3 : Nat) (Option.some Jvm.ClassFile.FieldType.int)) ∈ lw_all := lw_g (lw_at lw_m7 217 rfl) rfl
theorem q1751 : (Jvm.Cond.methodLink "SamovarLaw" (133 : Nat) ({ cls := "SamovarModel", name := "chance", desc := "(III)J" } : Jvm.MethodName)) ∈ lw_all := lw_g (lw_at lw_m7 218 rfl) rfl
theorem q1752 : (Jvm.Cond.instanceMethod ({ cls := "SamovarModel", name := "chance", desc := "(III)J" } : Jvm.MethodName)) ∈ lw_all := lw_g (lw_at lw_m7 219 rfl) rfl
theorem q1753 : (Jvm.Cond.selects "SamovarModel" ({ cls := "SamovarModel", name := "chance", desc := "(III)J" } : Jvm.MethodName) ({ cls := "SamovarModel", name := "chance", desc := "(III)J" } : Jvm.MethodName)) ∈ lw_all := lw_g (lw_at lw_m7 220 rfl) rfl
theorem q1754 : (Jvm.Cond.code ({ cls := "SamovarModel", name := "chance", desc := "(III)J" } : Jvm.MethodName) prog_15_method_84_code (4 : Nat) (Option.some Jvm.ClassFile.FieldType.long)) ∈ lw_all := lw_g (lw_at lw_m7 221 rfl) rfl
theorem q1755 : (Jvm.Cond.methodLink "SamovarModel" (343 : Nat) ({ cls := "SamovarModel", name := "chanceOf", desc := "(III)J" } : Jvm.MethodName)) ∈ lw_all := lw_g (lw_at lw_m7 222 rfl) rfl
theorem q1756 : (Jvm.Cond.privateMethod ({ cls := "SamovarModel", name := "chanceOf", desc := "(III)J" } : Jvm.MethodName)) ∈ lw_tbl := lw_at lw_m7 223 rfl
theorem q1757 : (Jvm.Cond.instanceMethod ({ cls := "SamovarModel", name := "chanceOf", desc := "(III)J" } : Jvm.MethodName)) ∈ lw_all := lw_g (lw_at lw_m7 224 rfl) rfl
theorem q1758 : (Jvm.Cond.code ({ cls := "SamovarModel", name := "chanceOf", desc := "(III)J" } : Jvm.MethodName) prog_15_method_83_code (10 : Nat) (Option.some Jvm.ClassFile.FieldType.long)) ∈ lw_all := lw_g (lw_at lw_m7 225 rfl) rfl
theorem q1759 : (Jvm.Cond.methodLink "SamovarModel" (339 : Nat) ({ cls := "SamovarModel", name := "lowest", desc := "(JJI)J" } : Jvm.MethodName)) ∈ lw_all := lw_g (lw_at lw_m7 226 rfl) rfl
theorem q1760 : (Jvm.Cond.static ({ cls := "SamovarModel", name := "lowest", desc := "(JJI)J" } : Jvm.MethodName)) ∈ lw_all := lw_g (lw_at lw_m7 227 rfl) rfl
theorem q1761 : (Jvm.Cond.code ({ cls := "SamovarModel", name := "lowest", desc := "(JJI)J" } : Jvm.MethodName) prog_15_method_7_code (11 : Nat) (Option.some Jvm.ClassFile.FieldType.long)) ∈ lw_all := lw_g (lw_at lw_m7 228 rfl) rfl
theorem q1762 : (Jvm.Cond.methodLink "SamovarModel" (347 : Nat) ({ cls := "SamovarModel", name := "no", desc := "(I)J" } : Jvm.MethodName)) ∈ lw_all := lw_g (lw_at lw_m7 229 rfl) rfl
theorem q1763 : (Jvm.Cond.static ({ cls := "SamovarModel", name := "no", desc := "(I)J" } : Jvm.MethodName)) ∈ lw_all := lw_g (lw_at lw_m7 230 rfl) rfl
theorem q1764 : (Jvm.Cond.code ({ cls := "SamovarModel", name := "no", desc := "(I)J" } : Jvm.MethodName) prog_15_method_5_code (1 : Nat) (Option.some Jvm.ClassFile.FieldType.long)) ∈ lw_all := lw_g (lw_at lw_m7 231 rfl) rfl
theorem q1765 : (Jvm.Cond.constantLong "SamovarModel" (117 : Nat) (-9223372036854775808 : Int64)) ∈ lw_all := lw_g (lw_at lw_m7 232 rfl) rfl
theorem q1766 : (Jvm.Cond.methodLink "SamovarLaw" (137 : Nat) ({ cls := "SamovarModel", name := "evenings", desc := "(III)I" } : Jvm.MethodName)) ∈ lw_all := lw_g (lw_at lw_m7 233 rfl) rfl
theorem q1767 : (Jvm.Cond.instanceMethod ({ cls := "SamovarModel", name := "evenings", desc := "(III)I" } : Jvm.MethodName)) ∈ lw_all := lw_g (lw_at lw_m7 234 rfl) rfl
theorem q1768 : (Jvm.Cond.selects "SamovarModel" ({ cls := "SamovarModel", name := "evenings", desc := "(III)I" } : Jvm.MethodName) ({ cls := "SamovarModel", name := "evenings", desc := "(III)I" } : Jvm.MethodName)) ∈ lw_all := lw_g (lw_at lw_m7 235 rfl) rfl
theorem q1769 : (Jvm.Cond.code ({ cls := "SamovarModel", name := "evenings", desc := "(III)I" } : Jvm.MethodName) prog_15_method_86_code (4 : Nat) (Option.some Jvm.ClassFile.FieldType.int)) ∈ lw_all := lw_g (lw_at lw_m7 236 rfl) rfl
theorem q1770 : (Jvm.Cond.methodLink "SamovarModel" (352 : Nat) ({ cls := "SamovarModel", name := "eveningsOf", desc := "(III)I" } : Jvm.MethodName)) ∈ lw_all := lw_g (lw_at lw_m7 237 rfl) rfl
theorem q1771 : (Jvm.Cond.privateMethod ({ cls := "SamovarModel", name := "eveningsOf", desc := "(III)I" } : Jvm.MethodName)) ∈ lw_tbl := lw_at lw_m7 238 rfl
theorem q1772 : (Jvm.Cond.instanceMethod ({ cls := "SamovarModel", name := "eveningsOf", desc := "(III)I" } : Jvm.MethodName)) ∈ lw_all := lw_g (lw_at lw_m7 239 rfl) rfl
theorem q1773 : (Jvm.Cond.code ({ cls := "SamovarModel", name := "eveningsOf", desc := "(III)I" } : Jvm.MethodName) prog_15_method_85_code (6 : Nat) (Option.some Jvm.ClassFile.FieldType.int)) ∈ lw_all := lw_g (lw_at lw_m8 0 rfl) rfl
theorem q1774 : (Jvm.Cond.constant "SamovarModel" (351 : Nat) (1103515245 : Int32)) ∈ lw_all := lw_g (lw_at lw_m8 1 rfl) rfl
theorem q1775 : (Jvm.Cond.methodLink "SamovarLaw" (141 : Nat) ({ cls := "SamovarModel", name := "sheet", desc := "(III)I" } : Jvm.MethodName)) ∈ lw_all := lw_g (lw_at lw_m8 2 rfl) rfl
theorem q1776 : (Jvm.Cond.instanceMethod ({ cls := "SamovarModel", name := "sheet", desc := "(III)I" } : Jvm.MethodName)) ∈ lw_all := lw_g (lw_at lw_m8 3 rfl) rfl
theorem q1777 : (Jvm.Cond.selects "SamovarModel" ({ cls := "SamovarModel", name := "sheet", desc := "(III)I" } : Jvm.MethodName) ({ cls := "SamovarModel", name := "sheet", desc := "(III)I" } : Jvm.MethodName)) ∈ lw_all := lw_g (lw_at lw_m8 4 rfl) rfl
theorem q1778 : (Jvm.Cond.code ({ cls := "SamovarModel", name := "sheet", desc := "(III)I" } : Jvm.MethodName) prog_15_method_89_code (5 : Nat) (Option.some Jvm.ClassFile.FieldType.int)) ∈ lw_all := lw_g (lw_at lw_m8 5 rfl) rfl
theorem q1779 : (Jvm.Cond.methodLink "SamovarLaw" (145 : Nat) ({ cls := "SamovarModel", name := "lose", desc := "(I)I" } : Jvm.MethodName)) ∈ lw_all := lw_g (lw_at lw_m8 6 rfl) rfl
theorem q1780 : (Jvm.Cond.instanceMethod ({ cls := "SamovarModel", name := "lose", desc := "(I)I" } : Jvm.MethodName)) ∈ lw_all := lw_g (lw_at lw_m8 7 rfl) rfl
theorem q1781 : (Jvm.Cond.selects "SamovarModel" ({ cls := "SamovarModel", name := "lose", desc := "(I)I" } : Jvm.MethodName) ({ cls := "SamovarModel", name := "lose", desc := "(I)I" } : Jvm.MethodName)) ∈ lw_all := lw_g (lw_at lw_m8 8 rfl) rfl
theorem q1782 : (Jvm.Cond.code ({ cls := "SamovarModel", name := "lose", desc := "(I)I" } : Jvm.MethodName) prog_15_method_90_code (2 : Nat) (Option.some Jvm.ClassFile.FieldType.int)) ∈ lw_all := lw_g (lw_at lw_m8 9 rfl) rfl
theorem q1783 : (Jvm.Cond.methodLink "SamovarLaw" (150 : Nat) ({ cls := "SamovarModel", name := "put", desc := "(IIII)I" } : Jvm.MethodName)) ∈ lw_all := lw_g (lw_at lw_m8 10 rfl) rfl
theorem q1784 : (Jvm.Cond.instanceMethod ({ cls := "SamovarModel", name := "put", desc := "(IIII)I" } : Jvm.MethodName)) ∈ lw_all := lw_g (lw_at lw_m8 11 rfl) rfl
theorem q1785 : (Jvm.Cond.selects "SamovarModel" ({ cls := "SamovarModel", name := "put", desc := "(IIII)I" } : Jvm.MethodName) ({ cls := "SamovarModel", name := "put", desc := "(IIII)I" } : Jvm.MethodName)) ∈ lw_all := lw_g (lw_at lw_m8 12 rfl) rfl
theorem q1786 : (Jvm.Cond.code ({ cls := "SamovarModel", name := "put", desc := "(IIII)I" } : Jvm.MethodName) prog_15_method_93_code (6 : Nat) (Option.some Jvm.ClassFile.FieldType.int)) ∈ lw_all := lw_g (lw_at lw_m8 13 rfl) rfl
theorem q1787 : (Jvm.Cond.methodLink "SamovarModel" (358 : Nat) ({ cls := "SamovarModel", name := "lacks", desc := "(III)I" } : Jvm.MethodName)) ∈ lw_all := lw_g (lw_at lw_m8 14 rfl) rfl
theorem q1788 : (Jvm.Cond.privateMethod ({ cls := "SamovarModel", name := "lacks", desc := "(III)I" } : Jvm.MethodName)) ∈ lw_tbl := lw_at lw_m8 15 rfl
theorem q1789 : (Jvm.Cond.instanceMethod ({ cls := "SamovarModel", name := "lacks", desc := "(III)I" } : Jvm.MethodName)) ∈ lw_all := lw_g (lw_at lw_m8 16 rfl) rfl
theorem q1790 : (Jvm.Cond.code ({ cls := "SamovarModel", name := "lacks", desc := "(III)I" } : Jvm.MethodName) prog_15_method_91_code (4 : Nat) (Option.some Jvm.ClassFile.FieldType.int)) ∈ lw_all := lw_g (lw_at lw_m8 17 rfl) rfl
theorem q1791 : (Jvm.Cond.methodLink "SamovarModel" (361 : Nat) ({ cls := "SamovarModel", name := "keep", desc := "(III)V" } : Jvm.MethodName)) ∈ lw_all := lw_g (lw_at lw_m8 18 rfl) rfl
theorem q1792 : (Jvm.Cond.privateMethod ({ cls := "SamovarModel", name := "keep", desc := "(III)V" } : Jvm.MethodName)) ∈ lw_tbl := lw_at lw_m8 19 rfl
theorem q1793 : (Jvm.Cond.instanceMethod ({ cls := "SamovarModel", name := "keep", desc := "(III)V" } : Jvm.MethodName)) ∈ lw_all := lw_g (lw_at lw_m8 20 rfl) rfl
theorem q1794 : (Jvm.Cond.code ({ cls := "SamovarModel", name := "keep", desc := "(III)V" } : Jvm.MethodName) prog_15_method_92_code (4 : Nat) (Option.none : Option Jvm.ClassFile.FieldType)) ∈ lw_all := lw_g (lw_at lw_m8 21 rfl) rfl
theorem q1795 : (Jvm.Cond.methodLink "SamovarLaw" (154 : Nat) ({ cls := "SamovarModel", name := "get", desc := "(III)I" } : Jvm.MethodName)) ∈ lw_all := lw_g (lw_at lw_m8 22 rfl) rfl
theorem q1796 : (Jvm.Cond.instanceMethod ({ cls := "SamovarModel", name := "get", desc := "(III)I" } : Jvm.MethodName)) ∈ lw_all := lw_g (lw_at lw_m8 23 rfl) rfl
theorem q1797 : (Jvm.Cond.selects "SamovarModel" ({ cls := "SamovarModel", name := "get", desc := "(III)I" } : Jvm.MethodName) ({ cls := "SamovarModel", name := "get", desc := "(III)I" } : Jvm.MethodName)) ∈ lw_all := lw_g (lw_at lw_m8 24 rfl) rfl
theorem q1798 : (Jvm.Cond.code ({ cls := "SamovarModel", name := "get", desc := "(III)I" } : Jvm.MethodName) prog_15_method_94_code (5 : Nat) (Option.some Jvm.ClassFile.FieldType.int)) ∈ lw_all := lw_g (lw_at lw_m8 25 rfl) rfl
theorem q1799 : (Jvm.Cond.constant "SamovarModel" (365 : Nat) (-2147483648 : Int32)) ∈ lw_all := lw_g (lw_at lw_m8 26 rfl) rfl
theorem q1800 : (Jvm.Cond.methodLink "SamovarLaw" (159 : Nat) ({ cls := "SamovarModel", name := "copy", desc := "(IIIII)I" } : Jvm.MethodName)) ∈ lw_all := lw_g (lw_at lw_m8 27 rfl) rfl
theorem q1801 : (Jvm.Cond.instanceMethod ({ cls := "SamovarModel", name := "copy", desc := "(IIIII)I" } : Jvm.MethodName)) ∈ lw_all := lw_g (lw_at lw_m8 28 rfl) rfl
theorem q1802 : (Jvm.Cond.selects "SamovarModel" ({ cls := "SamovarModel", name := "copy", desc := "(IIIII)I" } : Jvm.MethodName) ({ cls := "SamovarModel", name := "copy", desc := "(IIIII)I" } : Jvm.MethodName)) ∈ lw_all := lw_g (lw_at lw_m8 29 rfl) rfl
theorem q1803 : (Jvm.Cond.code ({ cls := "SamovarModel", name := "copy", desc := "(IIIII)I" } : Jvm.MethodName) prog_15_method_95_code (7 : Nat) (Option.some Jvm.ClassFile.FieldType.int)) ∈ lw_all := lw_g (lw_at lw_m8 30 rfl) rfl
theorem q1804 : (Jvm.Cond.methodLink "SamovarLaw" (163 : Nat) ({ cls := "SamovarModel", name := "write", desc := "(II)I" } : Jvm.MethodName)) ∈ lw_all := lw_g (lw_at lw_m8 31 rfl) rfl
theorem q1805 : (Jvm.Cond.instanceMethod ({ cls := "SamovarModel", name := "write", desc := "(II)I" } : Jvm.MethodName)) ∈ lw_all := lw_g (lw_at lw_m8 32 rfl) rfl
theorem q1806 : (Jvm.Cond.selects "SamovarModel" ({ cls := "SamovarModel", name := "write", desc := "(II)I" } : Jvm.MethodName) ({ cls := "SamovarModel", name := "write", desc := "(II)I" } : Jvm.MethodName)) ∈ lw_all := lw_g (lw_at lw_m8 33 rfl) rfl
theorem q1807 : (Jvm.Cond.code ({ cls := "SamovarModel", name := "write", desc := "(II)I" } : Jvm.MethodName) prog_15_method_96_code (4 : Nat) (Option.some Jvm.ClassFile.FieldType.int)) ∈ lw_all := lw_g (lw_at lw_m8 34 rfl) rfl
theorem q1808 : (Jvm.Cond.methodLink "SamovarLaw" (167 : Nat) ({ cls := "SamovarModel", name := "count", desc := "(I)I" } : Jvm.MethodName)) ∈ lw_all := lw_g (lw_at lw_m8 35 rfl) rfl
theorem q1809 : (Jvm.Cond.instanceMethod ({ cls := "SamovarModel", name := "count", desc := "(I)I" } : Jvm.MethodName)) ∈ lw_all := lw_g (lw_at lw_m8 36 rfl) rfl
theorem q1810 : (Jvm.Cond.selects "SamovarModel" ({ cls := "SamovarModel", name := "count", desc := "(I)I" } : Jvm.MethodName) ({ cls := "SamovarModel", name := "count", desc := "(I)I" } : Jvm.MethodName)) ∈ lw_all := lw_g (lw_at lw_m8 37 rfl) rfl
theorem q1811 : (Jvm.Cond.code ({ cls := "SamovarModel", name := "count", desc := "(I)I" } : Jvm.MethodName) prog_15_method_98_code (2 : Nat) (Option.some Jvm.ClassFile.FieldType.int)) ∈ lw_all := lw_g (lw_at lw_m8 38 rfl) rfl
theorem q1812 : (Jvm.Cond.methodLink "SamovarModel" (366 : Nat) ({ cls := "SamovarModel", name := "tellOf", desc := "(I)I" } : Jvm.MethodName)) ∈ lw_all := lw_g (lw_at lw_m8 39 rfl) rfl
theorem q1813 : (Jvm.Cond.privateMethod ({ cls := "SamovarModel", name := "tellOf", desc := "(I)I" } : Jvm.MethodName)) ∈ lw_tbl := lw_at lw_m8 40 rfl
theorem q1814 : (Jvm.Cond.instanceMethod ({ cls := "SamovarModel", name := "tellOf", desc := "(I)I" } : Jvm.MethodName)) ∈ lw_all := lw_g (lw_at lw_m8 41 rfl) rfl
theorem q1815 : (Jvm.Cond.code ({ cls := "SamovarModel", name := "tellOf", desc := "(I)I" } : Jvm.MethodName) prog_15_method_97_code (2 : Nat) (Option.some Jvm.ClassFile.FieldType.int)) ∈ lw_all := lw_g (lw_at lw_m8 42 rfl) rfl
theorem q1816 : (Jvm.Cond.methodLink "SamovarLaw" (172 : Nat) ({ cls := "SamovarModel", name := "digest", desc := "()J" } : Jvm.MethodName)) ∈ lw_all := lw_g (lw_at lw_m8 43 rfl) rfl
theorem q1817 : (Jvm.Cond.instanceMethod ({ cls := "SamovarModel", name := "digest", desc := "()J" } : Jvm.MethodName)) ∈ lw_all := lw_g (lw_at lw_m8 44 rfl) rfl
theorem q1818 : (Jvm.Cond.selects "SamovarModel" ({ cls := "SamovarModel", name := "digest", desc := "()J" } : Jvm.MethodName) ({ cls := "SamovarModel", name := "digest", desc := "()J" } : Jvm.MethodName)) ∈ lw_all := lw_g (lw_at lw_m8 45 rfl) rfl
theorem q1819 : (Jvm.Cond.code ({ cls := "SamovarModel", name := "digest", desc := "()J" } : Jvm.MethodName) prog_15_method_102_code (5 : Nat) (Option.some Jvm.ClassFile.FieldType.long)) ∈ lw_all := lw_g (lw_at lw_m8 46 rfl) rfl
theorem q1820 : (Jvm.Cond.constantLong "SamovarModel" (375 : Nat) (17 : Int64)) ∈ lw_all := lw_g (lw_at lw_m8 47 rfl) rfl
theorem q1821 : (Jvm.Cond.constantLong "SamovarModel" (369 : Nat) (31 : Int64)) ∈ lw_all := lw_g (lw_at lw_m8 48 rfl) rfl
theorem q1822 : (Jvm.Cond.methodLink "SamovarModel" (377 : Nat) ({ cls := "SamovarModel", name := "count", desc := "(I)I" } : Jvm.MethodName)) ∈ lw_all := lw_g (lw_at lw_m8 49 rfl) rfl
theorem q1823 : (Jvm.Cond.methodLink "SamovarModel" (380 : Nat) ({ cls := "SamovarModel", name := "pieceDigest", desc := "(JI)J" } : Jvm.MethodName)) ∈ lw_all := lw_g (lw_at lw_m8 50 rfl) rfl
theorem q1824 : (Jvm.Cond.privateMethod ({ cls := "SamovarModel", name := "pieceDigest", desc := "(JI)J" } : Jvm.MethodName)) ∈ lw_tbl := lw_at lw_m8 51 rfl
theorem q1825 : (Jvm.Cond.instanceMethod ({ cls := "SamovarModel", name := "pieceDigest", desc := "(JI)J" } : Jvm.MethodName)) ∈ lw_all := lw_g (lw_at lw_m8 52 rfl) rfl
theorem q1826 : (Jvm.Cond.code ({ cls := "SamovarModel", name := "pieceDigest", desc := "(JI)J" } : Jvm.MethodName) prog_15_method_99_code (7 : Nat) (Option.some Jvm.ClassFile.FieldType.long)) ∈ lw_all := lw_g (lw_at lw_m8 53 rfl) rfl
theorem q1827 : (Jvm.Cond.methodLink "SamovarModel" (384 : Nat) ({ cls := "SamovarModel", name := "guestDigest", desc := "(JI)J" } : Jvm.MethodName)) ∈ lw_all := lw_g (lw_at lw_m8 54 rfl) rfl
theorem q1828 : (Jvm.Cond.privateMethod ({ cls := "SamovarModel", name := "guestDigest", desc := "(JI)J" } : Jvm.MethodName)) ∈ lw_tbl := lw_at lw_m8 55 rfl
theorem q1829 : (Jvm.Cond.instanceMethod ({ cls := "SamovarModel", name := "guestDigest", desc := "(JI)J" } : Jvm.MethodName)) ∈ lw_all := lw_g (lw_at lw_m8 56 rfl) rfl
theorem q1830 : (Jvm.Cond.code ({ cls := "SamovarModel", name := "guestDigest", desc := "(JI)J" } : Jvm.MethodName) prog_15_method_101_code (7 : Nat) (Option.some Jvm.ClassFile.FieldType.long)) ∈ lw_all := lw_g (lw_at lw_m8 57 rfl) rfl
theorem q1831 : (Jvm.Cond.methodLink "SamovarModel" (371 : Nat) ({ cls := "SamovarModel", name := "isDigest", desc := "(JII)J" } : Jvm.MethodName)) ∈ lw_all := lw_g (lw_at lw_m8 58 rfl) rfl
theorem q1832 : (Jvm.Cond.privateMethod ({ cls := "SamovarModel", name := "isDigest", desc := "(JII)J" } : Jvm.MethodName)) ∈ lw_tbl := lw_at lw_m8 59 rfl
theorem q1833 : (Jvm.Cond.instanceMethod ({ cls := "SamovarModel", name := "isDigest", desc := "(JII)J" } : Jvm.MethodName)) ∈ lw_all := lw_g (lw_at lw_m8 60 rfl) rfl
theorem q1834 : (Jvm.Cond.code ({ cls := "SamovarModel", name := "isDigest", desc := "(JII)J" } : Jvm.MethodName) prog_15_method_100_code (7 : Nat) (Option.some Jvm.ClassFile.FieldType.long)) ∈ lw_all := lw_g (lw_at lw_m8 61 rfl) rfl
theorem q1835 : (Jvm.Cond.sameMethod "Samovar$Text" "Samovar$Text" "reads" "()I") ∈ lw_all := lw_g (lw_at lw_m8 62 rfl) rfl
theorem q1836 : (Jvm.Cond.sameMethod "Samovar$Text" "Samovar$Text" "next" "()V") ∈ lw_all := lw_g (lw_at lw_m8 63 rfl) rfl
theorem q1837 : (Jvm.Cond.sameMethod "java/lang/Throwable" "java/lang/Throwable" "fillInStackTrace" "(I)Ljava/lang/Throwable;") ∈ lw_all := lw_g (lw_at lw_m8 64 rfl) rfl
theorem q1838 : (Jvm.Cond.sameMethod "Samovar$Birch" "Samovar$Birch" "number" "()I") ∈ lw_all := lw_g (lw_at lw_m8 65 rfl) rfl
theorem q1839 : (Jvm.Cond.sameMethod "Samovar$Birch" "Samovar$Birch" "lasts" "()I") ∈ lw_all := lw_g (lw_at lw_m8 66 rfl) rfl
theorem q1840 : (Jvm.Cond.sameMethod "Samovar$Birch" "Samovar$Birch" "gives" "()I") ∈ lw_all := lw_g (lw_at lw_m8 67 rfl) rfl
theorem q1841 : (Jvm.Cond.initialized "java/lang/Object") ∈ lw_all := lw_g (lw_at lw_m8 68 rfl) rfl
theorem q1842 : (Jvm.Cond.initialized "Samovar$Birch") ∈ lw_all := lw_g (lw_at lw_m8 69 rfl) rfl
theorem q1843 : (Jvm.Cond.initialized "Samovar$Fuel") ∈ lw_all := lw_g (lw_at lw_m8 70 rfl) rfl
theorem q1844 : (Jvm.Cond.initialized "Samovar$Charcoal") ∈ lw_all := lw_g (lw_at lw_m8 71 rfl) rfl
theorem q1845 : (Jvm.Cond.initialized "Samovar$Dark") ∈ lw_all := lw_g (lw_at lw_m8 72 rfl) rfl
theorem q1846 : (Jvm.Cond.initialized "Samovar$Taste") ∈ lw_all := lw_g (lw_at lw_m8 73 rfl) rfl
theorem q1847 : (Jvm.Cond.castable "java/lang/ArrayIndexOutOfBoundsException" "java/lang/IndexOutOfBoundsException") ∈ lw_tbl := lw_at lw_m8 74 rfl
theorem q1848 : (Jvm.Cond.castable "Samovar$Text" "java/lang/Object") ∈ lw_tbl := lw_at lw_m8 75 rfl
theorem q1849 : (Jvm.Cond.castable "Samovar$Guest" "java/lang/Object") ∈ lw_tbl := lw_at lw_m8 76 rfl
theorem q1850 : (Jvm.Cond.castable "Samovar$Sheet" "java/lang/Object") ∈ lw_tbl := lw_at lw_m8 77 rfl
theorem q1851 : (Jvm.Cond.castable "Samovar$Taste" "java/lang/Object") ∈ lw_tbl := lw_at lw_m8 78 rfl
theorem q1852 : (Jvm.Cond.castable "Samovar$Fuel" "java/lang/Object") ∈ lw_tbl := lw_at lw_m8 79 rfl
theorem q1853 : (Jvm.Cond.castable "Samovar" "java/lang/Object") ∈ lw_tbl := lw_at lw_m8 80 rfl
theorem q1854 : (Jvm.Cond.castable "Samovar$Woodpile" "java/lang/Object") ∈ lw_tbl := lw_at lw_m8 81 rfl
theorem q1855 : (Jvm.Cond.castable "java/util/ArrayList" "java/lang/Object") ∈ lw_tbl := lw_at lw_m8 82 rfl
theorem q1856 : (Jvm.Cond.castable "Samovar$Company" "java/lang/Object") ∈ lw_tbl := lw_at lw_m8 83 rfl
theorem q1857 : (Jvm.Cond.castable "SamovarModel" "java/lang/Object") ∈ lw_tbl := lw_at lw_m8 84 rfl
theorem q1858 : (Jvm.Cond.castable "Samovar$Torn" "java/lang/Object") ∈ lw_tbl := lw_at lw_m8 85 rfl
theorem q1859 : (Jvm.Cond.castable "Samovar$Dark" "java/lang/Object") ∈ lw_tbl := lw_at lw_m8 86 rfl
theorem q1860 : (Jvm.Cond.castable "Samovar$Birch" "java/lang/Object") ∈ lw_tbl := lw_at lw_m8 87 rfl
theorem q1861 : (Jvm.Cond.castable "Samovar$Charcoal" "java/lang/Object") ∈ lw_tbl := lw_at lw_m8 88 rfl
theorem q1862 : (Jvm.Cond.castable "Samovar$Piece" "java/lang/Object") ∈ lw_tbl := lw_at lw_m8 89 rfl
theorem q1863 : (Jvm.Cond.castable "java/lang/NegativeArraySizeException" "java/lang/Object") ∈ lw_tbl := lw_at lw_m8 90 rfl
theorem q1864 : (Jvm.Cond.castable "java/lang/ClassCastException" "java/lang/Object") ∈ lw_tbl := lw_at lw_m8 91 rfl
theorem q1865 : (Jvm.Cond.castable "java/lang/ArrayIndexOutOfBoundsException" "java/lang/Object") ∈ lw_tbl := lw_at lw_m8 92 rfl
theorem q1866 : (Jvm.Cond.castable "java/lang/Throwable" "java/lang/Object") ∈ lw_tbl := lw_at lw_m8 93 rfl
theorem q1867 : (Jvm.Cond.castable "java/lang/String" "java/lang/Object") ∈ lw_tbl := lw_at lw_m8 94 rfl
theorem q1868 : (Jvm.Cond.castable "Samovar$Woodpile" "Samovar$Text") ∈ lw_tbl := lw_at lw_m8 95 rfl
theorem q1869 : (Jvm.Cond.castable "Samovar$Company" "Samovar$Text") ∈ lw_tbl := lw_at lw_m8 96 rfl
theorem q1870 : (Jvm.Cond.sameMethod "[Ljava/lang/Object;" "java/lang/Object" "getClass" "()Ljava/lang/Class;") ∈ lw_all := lw_g (lw_at lw_m8 97 rfl) rfl
theorem q1871 : (Jvm.Cond.selects "[Ljava/lang/Object;" ({ cls := "java/lang/Object", name := "getClass", desc := "()Ljava/lang/Class;" } : Jvm.MethodName) ({ cls := "java/lang/Object", name := "getClass", desc := "()Ljava/lang/Class;" } : Jvm.MethodName)) ∈ lw_all := lw_g (lw_at lw_m8 98 rfl) rfl
theorem q1872 : (Jvm.Cond.declares ({ cls := "java/lang/Object", name := "getClass", desc := "()Ljava/lang/Class;" } : Jvm.MethodName)) ∈ lw_tbl := lw_at lw_m8 99 rfl
theorem q1873 : (Jvm.Cond.castable "[B" "java/lang/Object") ∈ lw_tbl := lw_at lw_m8 100 rfl
theorem q1874 : (Jvm.Cond.castable "[LSamovar$Text;" "java/lang/Object") ∈ lw_tbl := lw_at lw_m8 101 rfl
theorem q1875 : (Jvm.Cond.castable "[[I" "java/lang/Object") ∈ lw_tbl := lw_at lw_m8 102 rfl
theorem q1876 : (Jvm.Cond.castable "[[[I" "java/lang/Object") ∈ lw_tbl := lw_at lw_m8 103 rfl
theorem q1877 : (Jvm.Cond.castable "[LSamovar$Guest;" "java/lang/Object") ∈ lw_tbl := lw_at lw_m8 104 rfl
theorem q1878 : (Jvm.Cond.castable "[LSamovar$Sheet;" "java/lang/Object") ∈ lw_tbl := lw_at lw_m8 105 rfl
theorem q1879 : (Jvm.Cond.castable "[I" "java/lang/Object") ∈ lw_tbl := lw_at lw_m8 106 rfl
theorem q1880 : (Jvm.Cond.castable "[Ljava/lang/Object;" "java/lang/Object") ∈ lw_tbl := lw_at lw_m8 107 rfl
theorem q1881 : (Jvm.Cond.castable "[S" "java/lang/Object") ∈ lw_tbl := lw_at lw_m8 108 rfl
theorem q1882 : (Jvm.Cond.castable "[Z" "java/lang/Object") ∈ lw_tbl := lw_at lw_m8 109 rfl
theorem q1883 : (Jvm.Cond.castable "[LSamovar$Taste;" "java/lang/Object") ∈ lw_tbl := lw_at lw_m8 110 rfl
theorem q1884 : (Jvm.Cond.castable "[LSamovar$Fuel;" "java/lang/Object") ∈ lw_tbl := lw_at lw_m8 111 rfl
theorem q1885 : (Jvm.Cond.fieldLink "java/lang/String" (15 : Nat) "java/lang/String" "coder" "B") ∈ lw_all := lw_g (lw_at lw_m8 112 rfl) rfl
theorem q1886 : (Jvm.Cond.fieldLink "java/lang/String" (9 : Nat) "java/lang/String" "value" "[B") ∈ lw_all := lw_g (lw_at lw_m8 113 rfl) rfl
