/-! the words: by program out of claim/names -/
set_option maxRecDepth 100000
theorem q95 : (Jvm.Cond.initialized "PlugHallLaw") ∈ lw_all := lw_g (lw_at lw_m1 0 rfl) rfl
theorem q96 : (Jvm.Cond.initialized "PlugHall") ∈ lw_all := lw_g (lw_at lw_m1 1 rfl) rfl
theorem q97 : (Jvm.Cond.initialized "PlugHall$Board") ∈ lw_all := lw_g (lw_at lw_m1 2 rfl) rfl
theorem q98 : (Jvm.Cond.initialized "PlugHall$Machine") ∈ lw_all := lw_g (lw_at lw_m1 3 rfl) rfl
theorem q99 : (Jvm.Cond.initialized "PlugHall$Outcome") ∈ lw_all := lw_g (lw_at lw_m1 4 rfl) rfl
theorem q100 : (Jvm.Cond.initialized "PlugHall$Job") ∈ lw_all := lw_g (lw_at lw_m1 5 rfl) rfl
theorem q101 : (Jvm.Cond.initialized "PlugHall$Box") ∈ lw_all := lw_g (lw_at lw_m1 6 rfl) rfl
theorem q102 : (Jvm.Cond.initialized "PlugHallModel") ∈ lw_all := lw_g (lw_at lw_m1 7 rfl) rfl
theorem q103 : (Jvm.Cond.initialized "java/util/Arrays") ∈ lw_all := lw_g (lw_at lw_m1 8 rfl) rfl
theorem q104 : (Jvm.Cond.initialized "java/lang/Math") ∈ lw_all := lw_g (lw_at lw_m1 9 rfl) rfl
theorem q105 : (Jvm.Cond.initialized "java/lang/System") ∈ lw_all := lw_g (lw_at lw_m1 10 rfl) rfl
theorem q106 : (Jvm.Cond.initialized "java/lang/Throwable") ∈ lw_all := lw_g (lw_at lw_m1 11 rfl) rfl
theorem q107 : (Jvm.Cond.initialized "java/lang/Exception") ∈ lw_all := lw_g (lw_at lw_m1 12 rfl) rfl
theorem q108 : (Jvm.Cond.initialized "java/lang/RuntimeException") ∈ lw_all := lw_g (lw_at lw_m1 13 rfl) rfl
theorem q109 : (Jvm.Cond.initialized "java/util/NoSuchElementException") ∈ lw_all := lw_g (lw_at lw_m1 14 rfl) rfl
theorem q110 : (Jvm.Cond.initialized "PlugHall$Tokens") ∈ lw_all := lw_g (lw_at lw_m1 15 rfl) rfl
theorem q111 : (Jvm.Cond.initialized "PlugHall$Reader") ∈ lw_all := lw_g (lw_at lw_m1 16 rfl) rfl
theorem q112 : (Jvm.Cond.initialized "java/lang/AbstractStringBuilder") ∈ lw_all := lw_g (lw_at lw_m1 17 rfl) rfl
theorem q113 : (Jvm.Cond.initialized "java/lang/StringBuilder") ∈ lw_all := lw_g (lw_at lw_m1 18 rfl) rfl
theorem q114 : (Jvm.Cond.initialized "java/lang/String") ∈ lw_all := lw_g (lw_at lw_m1 19 rfl) rfl
theorem q115 : (Jvm.Cond.initialized "java/lang/StringUTF16") ∈ lw_all := lw_g (lw_at lw_m1 20 rfl) rfl
theorem q116 : (Jvm.Cond.initialized "jdk/internal/util/ArraysSupport") ∈ lw_all := lw_g (lw_at lw_m1 21 rfl) rfl
theorem q117 : (Jvm.Cond.initialized "java/lang/StringLatin1") ∈ lw_all := lw_g (lw_at lw_m1 22 rfl) rfl
theorem q118 : (Jvm.Cond.initialized "jdk/internal/util/Preconditions") ∈ lw_all := lw_g (lw_at lw_m1 23 rfl) rfl
theorem q119 : (Jvm.Cond.initialized "PlugHall$Fault") ∈ lw_all := lw_g (lw_at lw_m1 24 rfl) rfl
theorem q120 : (Jvm.Cond.initialized "PlugHall$JobReader") ∈ lw_all := lw_g (lw_at lw_m1 25 rfl) rfl
theorem q121 : (Jvm.Cond.initialized "PlugHall$Maker") ∈ lw_all := lw_g (lw_at lw_m1 26 rfl) rfl
theorem q122 : (Jvm.Cond.classLink "PlugHallLaw" (8 : Nat) "PlugHall") ∈ lw_all := lw_g (lw_at lw_m1 27 rfl) rfl
theorem q123 : (Jvm.Cond.instantiable "PlugHall" (36 : Nat)) ∈ lw_all := lw_g (lw_at lw_m1 28 rfl) rfl
theorem q124 : (Jvm.Cond.methodLink "PlugHallLaw" (26 : Nat) ({ cls := "PlugHall", name := "<init>", desc := "()V" } : Jvm.MethodName)) ∈ lw_all := lw_g (lw_at lw_m1 29 rfl) rfl
theorem q125 : (Jvm.Cond.instanceMethod ({ cls := "PlugHall", name := "<init>", desc := "()V" } : Jvm.MethodName)) ∈ lw_all := lw_g (lw_at lw_m1 30 rfl) rfl
theorem q126 : (Jvm.Cond.code ({ cls := "PlugHall", name := "<init>", desc := "()V" } : Jvm.MethodName) prog_1_method_4_code (2 : Nat) (Option.none : Option Jvm.ClassFile.FieldType)) ∈ lw_all := lw_g (lw_at lw_m1 31 rfl) rfl
theorem q127 : (Jvm.Cond.methodLink "PlugHall" (7 : Nat) ({ cls := "java/lang/Object", name := "<init>", desc := "()V" } : Jvm.MethodName)) ∈ lw_all := lw_g (lw_at lw_m1 32 rfl) rfl
theorem q128 : (Jvm.Cond.instanceMethod ({ cls := "java/lang/Object", name := "<init>", desc := "()V" } : Jvm.MethodName)) ∈ lw_all := lw_g (lw_at lw_m1 33 rfl) rfl
theorem q129 : (Jvm.Cond.code ({ cls := "java/lang/Object", name := "<init>", desc := "()V" } : Jvm.MethodName) object_method_1_code (1 : Nat) (Option.none : Option Jvm.ClassFile.FieldType)) ∈ lw_all := lw_g (lw_at lw_m1 34 rfl) rfl
theorem q130 : (Jvm.Cond.classLink "PlugHall" (17 : Nat) "PlugHall$Box") ∈ lw_all := lw_g (lw_at lw_m1 35 rfl) rfl
theorem q131 : (Jvm.Cond.arrayOver (Jvm.ClassFile.FieldType.object "PlugHall$Box")) ∈ lw_tbl := lw_at lw_m1 36 rfl
theorem q132 : (Jvm.Cond.classLink "PlugHall" (23 : Nat) "PlugHall$Board") ∈ lw_all := lw_g (lw_at lw_m1 37 rfl) rfl
theorem q133 : (Jvm.Cond.instantiable "PlugHall$Board" (3 : Nat)) ∈ lw_all := lw_g (lw_at lw_m1 38 rfl) rfl
theorem q134 : (Jvm.Cond.methodLinkNest "PlugHall" (25 : Nat) ({ cls := "PlugHall$Board", name := "<init>", desc := "()V" } : Jvm.MethodName) "PlugHall") ∈ lw_tbl := lw_at lw_m1 39 rfl
theorem q135 : (Jvm.Cond.instanceMethod ({ cls := "PlugHall$Board", name := "<init>", desc := "()V" } : Jvm.MethodName)) ∈ lw_all := lw_g (lw_at lw_m1 40 rfl) rfl
theorem q136 : (Jvm.Cond.code ({ cls := "PlugHall$Board", name := "<init>", desc := "()V" } : Jvm.MethodName) prog_2_method_1_code (1 : Nat) (Option.none : Option Jvm.ClassFile.FieldType)) ∈ lw_all := lw_g (lw_at lw_m1 41 rfl) rfl
theorem q137 : (Jvm.Cond.methodLink "PlugHall$Board" (3 : Nat) ({ cls := "java/lang/Object", name := "<init>", desc := "()V" } : Jvm.MethodName)) ∈ lw_all := lw_g (lw_at lw_m1 42 rfl) rfl
theorem q138 : (Jvm.Cond.fieldLink "PlugHall$Board" (9 : Nat) "PlugHall$Board" "one" "[I") ∈ lw_all := lw_g (lw_at lw_m1 43 rfl) rfl
theorem q139 : (Jvm.Cond.fieldLinkNest "PlugHall$Machine" (38 : Nat) "PlugHall$Board" "one" "[I" "PlugHall") ∈ lw_tbl := lw_at lw_m1 44 rfl
theorem q140 : (Jvm.Cond.fieldLinkNest "PlugHall" (359 : Nat) "PlugHall$Board" "one" "[I" "PlugHall") ∈ lw_tbl := lw_at lw_m1 45 rfl
theorem q141 : (Jvm.Cond.fieldLink "PlugHall$Board" (15 : Nat) "PlugHall$Board" "other" "[I") ∈ lw_all := lw_g (lw_at lw_m1 46 rfl) rfl
theorem q142 : (Jvm.Cond.fieldLinkNest "PlugHall$Machine" (41 : Nat) "PlugHall$Board" "other" "[I" "PlugHall") ∈ lw_tbl := lw_at lw_m1 47 rfl
theorem q143 : (Jvm.Cond.fieldLinkNest "PlugHall" (362 : Nat) "PlugHall$Board" "other" "[I" "PlugHall") ∈ lw_tbl := lw_at lw_m1 48 rfl
theorem q144 : (Jvm.Cond.fieldLink "PlugHall$Board" (18 : Nat) "PlugHall$Board" "wires" "I") ∈ lw_all := lw_g (lw_at lw_m1 49 rfl) rfl
theorem q145 : (Jvm.Cond.fieldLinkNest "PlugHall$Reader" (53 : Nat) "PlugHall$Board" "wires" "I" "PlugHall") ∈ lw_tbl := lw_at lw_m1 50 rfl
theorem q146 : (Jvm.Cond.fieldLinkNest "PlugHall$Machine" (29 : Nat) "PlugHall$Board" "wires" "I" "PlugHall") ∈ lw_tbl := lw_at lw_m1 51 rfl
theorem q147 : (Jvm.Cond.fieldLinkNest "PlugHall" (162 : Nat) "PlugHall$Board" "wires" "I" "PlugHall") ∈ lw_tbl := lw_at lw_m1 52 rfl
theorem q148 : (Jvm.Cond.laysFinal "PlugHall$Board" "PlugHall$Board" "one" "[I") ∈ lw_all := lw_g (lw_at lw_m1 53 rfl) rfl
theorem q149 : (Jvm.Cond.soleField "PlugHall$Board" "one") ∈ lw_all := lw_g (lw_at lw_m1 54 rfl) rfl
theorem q150 : (Jvm.Cond.laysFinal "PlugHall$Board" "PlugHall$Board" "other" "[I") ∈ lw_all := lw_g (lw_at lw_m1 55 rfl) rfl
theorem q151 : (Jvm.Cond.soleField "PlugHall$Board" "other") ∈ lw_all := lw_g (lw_at lw_m1 56 rfl) rfl
theorem q152 : (Jvm.Cond.lays "PlugHall$Board" "PlugHall$Board" "wires" "I") ∈ lw_all := lw_g (lw_at lw_m1 57 rfl) rfl
theorem q153 : (Jvm.Cond.soleField "PlugHall$Board" "wires") ∈ lw_all := lw_g (lw_at lw_m1 58 rfl) rfl
theorem q154 : (Jvm.Cond.superclass "PlugHall$Board" "java/lang/Object") ∈ lw_all := lw_g (lw_at lw_m1 59 rfl) rfl
theorem q155 : (Jvm.Cond.arrayClass Jvm.ClassFile.FieldType.byte) ∈ lw_all := lw_g (lw_at lw_m1 60 rfl) rfl
theorem q156 : (Jvm.Cond.arrayClass Jvm.ClassFile.FieldType.int) ∈ lw_all := lw_g (lw_at lw_m1 61 rfl) rfl
theorem q157 : (Jvm.Cond.classLink "PlugHall" (30 : Nat) "PlugHall$Machine") ∈ lw_all := lw_g (lw_at lw_m1 62 rfl) rfl
theorem q158 : (Jvm.Cond.instantiable "PlugHall$Machine" (10 : Nat)) ∈ lw_all := lw_g (lw_at lw_m1 63 rfl) rfl
theorem q159 : (Jvm.Cond.methodLinkNest "PlugHall" (32 : Nat) ({ cls := "PlugHall$Machine", name := "<init>", desc := "()V" } : Jvm.MethodName) "PlugHall") ∈ lw_tbl := lw_at lw_m1 64 rfl
theorem q160 : (Jvm.Cond.instanceMethod ({ cls := "PlugHall$Machine", name := "<init>", desc := "()V" } : Jvm.MethodName)) ∈ lw_all := lw_g (lw_at lw_m1 65 rfl) rfl
theorem q161 : (Jvm.Cond.code ({ cls := "PlugHall$Machine", name := "<init>", desc := "()V" } : Jvm.MethodName) prog_7_method_1_code (1 : Nat) (Option.none : Option Jvm.ClassFile.FieldType)) ∈ lw_all := lw_g (lw_at lw_m1 66 rfl) rfl
theorem q162 : (Jvm.Cond.methodLink "PlugHall$Machine" (3 : Nat) ({ cls := "java/lang/Object", name := "<init>", desc := "()V" } : Jvm.MethodName)) ∈ lw_all := lw_g (lw_at lw_m1 67 rfl) rfl
theorem q163 : (Jvm.Cond.fieldLink "PlugHall$Machine" (25 : Nat) "PlugHall$Machine" "board" "LPlugHall$Board;") ∈ lw_all := lw_g (lw_at lw_m1 68 rfl) rfl
theorem q164 : (Jvm.Cond.fieldLink "PlugHall$Machine" (35 : Nat) "PlugHall$Machine" "without" "I") ∈ lw_all := lw_g (lw_at lw_m1 69 rfl) rfl
theorem q165 : (Jvm.Cond.fieldLink "PlugHall$Machine" (48 : Nat) "PlugHall$Machine" "picked" "I") ∈ lw_all := lw_g (lw_at lw_m1 70 rfl) rfl
theorem q166 : (Jvm.Cond.fieldLink "PlugHall$Machine" (124 : Nat) "PlugHall$Machine" "room" "I") ∈ lw_all := lw_g (lw_at lw_m1 71 rfl) rfl
theorem q167 : (Jvm.Cond.fieldLink "PlugHall$Machine" (63 : Nat) "PlugHall$Machine" "out" "LPlugHall$Outcome;") ∈ lw_all := lw_g (lw_at lw_m1 72 rfl) rfl
theorem q168 : (Jvm.Cond.fieldLink "PlugHall$Machine" (9 : Nat) "PlugHall$Machine" "up" "[I") ∈ lw_all := lw_g (lw_at lw_m1 73 rfl) rfl
theorem q169 : (Jvm.Cond.fieldLink "PlugHall$Machine" (15 : Nat) "PlugHall$Machine" "give" "[I") ∈ lw_all := lw_g (lw_at lw_m1 74 rfl) rfl
theorem q170 : (Jvm.Cond.fieldLink "PlugHall$Machine" (18 : Nat) "PlugHall$Machine" "firstOf" "[I") ∈ lw_all := lw_g (lw_at lw_m1 75 rfl) rfl
theorem q171 : (Jvm.Cond.fieldLink "PlugHall$Machine" (57 : Nat) "PlugHall$Machine" "jamOne" "I") ∈ lw_all := lw_g (lw_at lw_m1 76 rfl) rfl
theorem q172 : (Jvm.Cond.fieldLink "PlugHall$Machine" (60 : Nat) "PlugHall$Machine" "jamOther" "I") ∈ lw_all := lw_g (lw_at lw_m1 77 rfl) rfl
theorem q173 : (Jvm.Cond.lays "PlugHall$Machine" "PlugHall$Machine" "board" "LPlugHall$Board;") ∈ lw_all := lw_g (lw_at lw_m1 78 rfl) rfl
theorem q174 : (Jvm.Cond.soleField "PlugHall$Machine" "board") ∈ lw_all := lw_g (lw_at lw_m1 79 rfl) rfl
theorem q175 : (Jvm.Cond.lays "PlugHall$Machine" "PlugHall$Machine" "without" "I") ∈ lw_all := lw_g (lw_at lw_m1 80 rfl) rfl
theorem q176 : (Jvm.Cond.soleField "PlugHall$Machine" "without") ∈ lw_all := lw_g (lw_at lw_m1 81 rfl) rfl
theorem q177 : (Jvm.Cond.lays "PlugHall$Machine" "PlugHall$Machine" "picked" "I") ∈ lw_all := lw_g (lw_at lw_m1 82 rfl) rfl
theorem q178 : (Jvm.Cond.soleField "PlugHall$Machine" "picked") ∈ lw_all := lw_g (lw_at lw_m1 83 rfl) rfl
theorem q179 : (Jvm.Cond.lays "PlugHall$Machine" "PlugHall$Machine" "room" "I") ∈ lw_all := lw_g (lw_at lw_m1 84 rfl) rfl
theorem q180 : (Jvm.Cond.soleField "PlugHall$Machine" "room") ∈ lw_all := lw_g (lw_at lw_m1 85 rfl) rfl
theorem q181 : (Jvm.Cond.lays "PlugHall$Machine" "PlugHall$Machine" "out" "LPlugHall$Outcome;") ∈ lw_all := lw_g (lw_at lw_m1 86 rfl) rfl
theorem q182 : (Jvm.Cond.soleField "PlugHall$Machine" "out") ∈ lw_all := lw_g (lw_at lw_m1 87 rfl) rfl
theorem q183 : (Jvm.Cond.laysFinal "PlugHall$Machine" "PlugHall$Machine" "up" "[I") ∈ lw_all := lw_g (lw_at lw_m1 88 rfl) rfl
theorem q184 : (Jvm.Cond.soleField "PlugHall$Machine" "up") ∈ lw_all := lw_g (lw_at lw_m1 89 rfl) rfl
theorem q185 : (Jvm.Cond.laysFinal "PlugHall$Machine" "PlugHall$Machine" "give" "[I") ∈ lw_all := lw_g (lw_at lw_m1 90 rfl) rfl
theorem q186 : (Jvm.Cond.soleField "PlugHall$Machine" "give") ∈ lw_all := lw_g (lw_at lw_m1 91 rfl) rfl
theorem q187 : (Jvm.Cond.laysFinal "PlugHall$Machine" "PlugHall$Machine" "firstOf" "[I") ∈ lw_all := lw_g (lw_at lw_m1 92 rfl) rfl
theorem q188 : (Jvm.Cond.soleField "PlugHall$Machine" "firstOf") ∈ lw_all := lw_g (lw_at lw_m1 93 rfl) rfl
theorem q189 : (Jvm.Cond.lays "PlugHall$Machine" "PlugHall$Machine" "jamOne" "I") ∈ lw_all := lw_g (lw_at lw_m1 94 rfl) rfl
theorem q190 : (Jvm.Cond.soleField "PlugHall$Machine" "jamOne") ∈ lw_all := lw_g (lw_at lw_m1 95 rfl) rfl
theorem q191 : (Jvm.Cond.lays "PlugHall$Machine" "PlugHall$Machine" "jamOther" "I") ∈ lw_all := lw_g (lw_at lw_m1 96 rfl) rfl
theorem q192 : (Jvm.Cond.soleField "PlugHall$Machine" "jamOther") ∈ lw_all := lw_g (lw_at lw_m1 97 rfl) rfl
theorem q193 : (Jvm.Cond.superclass "PlugHall$Machine" "java/lang/Object") ∈ lw_all := lw_g (lw_at lw_m1 98 rfl) rfl
theorem q194 : (Jvm.Cond.classLink "PlugHall" (37 : Nat) "PlugHall$Outcome") ∈ lw_all := lw_g (lw_at lw_m1 99 rfl) rfl
theorem q195 : (Jvm.Cond.instantiable "PlugHall$Outcome" (11 : Nat)) ∈ lw_all := lw_g (lw_at lw_m1 100 rfl) rfl
theorem q196 : (Jvm.Cond.methodLinkNest "PlugHall" (39 : Nat) ({ cls := "PlugHall$Outcome", name := "<init>", desc := "()V" } : Jvm.MethodName) "PlugHall") ∈ lw_tbl := lw_at lw_m1 101 rfl
theorem q197 : (Jvm.Cond.instanceMethod ({ cls := "PlugHall$Outcome", name := "<init>", desc := "()V" } : Jvm.MethodName)) ∈ lw_all := lw_g (lw_at lw_m1 102 rfl) rfl
theorem q198 : (Jvm.Cond.code ({ cls := "PlugHall$Outcome", name := "<init>", desc := "()V" } : Jvm.MethodName) prog_9_method_1_code (1 : Nat) (Option.none : Option Jvm.ClassFile.FieldType)) ∈ lw_all := lw_g (lw_at lw_m1 103 rfl) rfl
theorem q199 : (Jvm.Cond.methodLink "PlugHall$Outcome" (3 : Nat) ({ cls := "java/lang/Object", name := "<init>", desc := "()V" } : Jvm.MethodName)) ∈ lw_all := lw_g (lw_at lw_m1 104 rfl) rfl
theorem q200 : (Jvm.Cond.classLink "PlugHall$Outcome" (9 : Nat) "[[B") ∈ lw_all := lw_g (lw_at lw_m1 105 rfl) rfl
theorem q201 : (Jvm.Cond.arrayOver (Jvm.ClassFile.FieldType.array Jvm.ClassFile.FieldType.byte)) ∈ lw_tbl := lw_at lw_m1 106 rfl
theorem q202 : (Jvm.Cond.fieldLink "PlugHall$Outcome" (23 : Nat) "PlugHall$Outcome" "end" "I") ∈ lw_all := lw_g (lw_at lw_m1 107 rfl) rfl
theorem q203 : (Jvm.Cond.fieldLinkNest "PlugHall$Machine" (91 : Nat) "PlugHall$Outcome" "end" "I" "PlugHall") ∈ lw_tbl := lw_at lw_m1 108 rfl
theorem q204 : (Jvm.Cond.fieldLinkNest "PlugHall" (187 : Nat) "PlugHall$Outcome" "end" "I" "PlugHall") ∈ lw_tbl := lw_at lw_m1 109 rfl
theorem q205 : (Jvm.Cond.fieldLink "PlugHall$Outcome" (27 : Nat) "PlugHall$Outcome" "cards" "I") ∈ lw_all := lw_g (lw_at lw_m1 110 rfl) rfl
theorem q206 : (Jvm.Cond.fieldLinkNest "PlugHall$Machine" (148 : Nat) "PlugHall$Outcome" "cards" "I" "PlugHall") ∈ lw_tbl := lw_at lw_m1 111 rfl
theorem q207 : (Jvm.Cond.fieldLinkNest "PlugHall" (190 : Nat) "PlugHall$Outcome" "cards" "I" "PlugHall") ∈ lw_tbl := lw_at lw_m1 112 rfl
theorem q208 : (Jvm.Cond.fieldLink "PlugHall$Outcome" (30 : Nat) "PlugHall$Outcome" "totals" "I") ∈ lw_all := lw_g (lw_at lw_m1 113 rfl) rfl
theorem q209 : (Jvm.Cond.fieldLinkNest "PlugHall$Machine" (155 : Nat) "PlugHall$Outcome" "totals" "I" "PlugHall") ∈ lw_tbl := lw_at lw_m1 114 rfl
theorem q210 : (Jvm.Cond.fieldLinkNest "PlugHall" (193 : Nat) "PlugHall$Outcome" "totals" "I" "PlugHall") ∈ lw_tbl := lw_at lw_m1 115 rfl
theorem q211 : (Jvm.Cond.fieldLink "PlugHall$Outcome" (33 : Nat) "PlugHall$Outcome" "lines" "I") ∈ lw_all := lw_g (lw_at lw_m1 116 rfl) rfl
theorem q212 : (Jvm.Cond.fieldLinkNest "PlugHall$Machine" (105 : Nat) "PlugHall$Outcome" "lines" "I" "PlugHall") ∈ lw_tbl := lw_at lw_m1 117 rfl
theorem q213 : (Jvm.Cond.fieldLinkNest "PlugHall" (196 : Nat) "PlugHall$Outcome" "lines" "I" "PlugHall") ∈ lw_tbl := lw_at lw_m1 118 rfl
theorem q214 : (Jvm.Cond.fieldLink "PlugHall$Outcome" (36 : Nat) "PlugHall$Outcome" "punched" "I") ∈ lw_all := lw_g (lw_at lw_m1 119 rfl) rfl
theorem q215 : (Jvm.Cond.fieldLinkNest "PlugHall$Machine" (121 : Nat) "PlugHall$Outcome" "punched" "I" "PlugHall") ∈ lw_tbl := lw_at lw_m1 120 rfl
theorem q216 : (Jvm.Cond.fieldLinkNest "PlugHall" (181 : Nat) "PlugHall$Outcome" "punched" "I" "PlugHall") ∈ lw_tbl := lw_at lw_m1 121 rfl
theorem q217 : (Jvm.Cond.fieldLink "PlugHall$Outcome" (39 : Nat) "PlugHall$Outcome" "overs" "I") ∈ lw_all := lw_g (lw_at lw_m1 122 rfl) rfl
theorem q218 : (Jvm.Cond.fieldLinkNest "PlugHall$Machine" (117 : Nat) "PlugHall$Outcome" "overs" "I" "PlugHall") ∈ lw_tbl := lw_at lw_m1 123 rfl
theorem q219 : (Jvm.Cond.fieldLinkNest "PlugHall" (199 : Nat) "PlugHall$Outcome" "overs" "I" "PlugHall") ∈ lw_tbl := lw_at lw_m1 124 rfl
theorem q220 : (Jvm.Cond.fieldLink "PlugHall$Outcome" (42 : Nat) "PlugHall$Outcome" "jamOne" "I") ∈ lw_all := lw_g (lw_at lw_m1 125 rfl) rfl
theorem q221 : (Jvm.Cond.fieldLinkNest "PlugHall$Machine" (94 : Nat) "PlugHall$Outcome" "jamOne" "I" "PlugHall") ∈ lw_tbl := lw_at lw_m1 126 rfl
theorem q222 : (Jvm.Cond.fieldLinkNest "PlugHall" (202 : Nat) "PlugHall$Outcome" "jamOne" "I" "PlugHall") ∈ lw_tbl := lw_at lw_m1 127 rfl
theorem q223 : (Jvm.Cond.fieldLink "PlugHall$Outcome" (45 : Nat) "PlugHall$Outcome" "jamOther" "I") ∈ lw_all := lw_g (lw_at lw_m1 128 rfl) rfl
theorem q224 : (Jvm.Cond.fieldLinkNest "PlugHall$Machine" (95 : Nat) "PlugHall$Outcome" "jamOther" "I" "PlugHall") ∈ lw_tbl := lw_at lw_m1 129 rfl
theorem q225 : (Jvm.Cond.fieldLinkNest "PlugHall" (205 : Nat) "PlugHall$Outcome" "jamOther" "I" "PlugHall") ∈ lw_tbl := lw_at lw_m1 130 rfl
theorem q226 : (Jvm.Cond.fieldLink "PlugHall$Outcome" (11 : Nat) "PlugHall$Outcome" "line" "[[B") ∈ lw_all := lw_g (lw_at lw_m1 131 rfl) rfl
theorem q227 : (Jvm.Cond.fieldLinkNest "PlugHall$Machine" (108 : Nat) "PlugHall$Outcome" "line" "[[B" "PlugHall") ∈ lw_tbl := lw_at lw_m1 132 rfl
theorem q228 : (Jvm.Cond.fieldLinkNest "PlugHall" (208 : Nat) "PlugHall$Outcome" "line" "[[B" "PlugHall") ∈ lw_tbl := lw_at lw_m1 133 rfl
theorem q229 : (Jvm.Cond.fieldLink "PlugHall$Outcome" (16 : Nat) "PlugHall$Outcome" "made" "[[B") ∈ lw_all := lw_g (lw_at lw_m1 134 rfl) rfl
theorem q230 : (Jvm.Cond.fieldLinkNest "PlugHall$Machine" (127 : Nat) "PlugHall$Outcome" "made" "[[B" "PlugHall") ∈ lw_tbl := lw_at lw_m1 135 rfl
theorem q231 : (Jvm.Cond.fieldLinkNest "PlugHall" (184 : Nat) "PlugHall$Outcome" "made" "[[B" "PlugHall") ∈ lw_tbl := lw_at lw_m1 136 rfl
theorem q232 : (Jvm.Cond.fieldLink "PlugHall$Outcome" (19 : Nat) "PlugHall$Outcome" "wheel" "[I") ∈ lw_all := lw_g (lw_at lw_m1 137 rfl) rfl
theorem q233 : (Jvm.Cond.fieldLinkNest "PlugHall$Machine" (67 : Nat) "PlugHall$Outcome" "wheel" "[I" "PlugHall") ∈ lw_tbl := lw_at lw_m1 138 rfl
theorem q234 : (Jvm.Cond.fieldLinkNest "PlugHall" (211 : Nat) "PlugHall$Outcome" "wheel" "[I" "PlugHall") ∈ lw_tbl := lw_at lw_m1 139 rfl
theorem q235 : (Jvm.Cond.lays "PlugHall$Outcome" "PlugHall$Outcome" "end" "I") ∈ lw_all := lw_g (lw_at lw_m1 140 rfl) rfl
theorem q236 : (Jvm.Cond.soleField "PlugHall$Outcome" "end") ∈ lw_all := lw_g (lw_at lw_m1 141 rfl) rfl
theorem q237 : (Jvm.Cond.lays "PlugHall$Outcome" "PlugHall$Outcome" "cards" "I") ∈ lw_all := lw_g (lw_at lw_m1 142 rfl) rfl
theorem q238 : (Jvm.Cond.soleField "PlugHall$Outcome" "cards") ∈ lw_all := lw_g (lw_at lw_m1 143 rfl) rfl
theorem q239 : (Jvm.Cond.lays "PlugHall$Outcome" "PlugHall$Outcome" "totals" "I") ∈ lw_all := lw_g (lw_at lw_m1 144 rfl) rfl
theorem q240 : (Jvm.Cond.soleField "PlugHall$Outcome" "totals") ∈ lw_all := lw_g (lw_at lw_m1 145 rfl) rfl
theorem q241 : (Jvm.Cond.lays "PlugHall$Outcome" "PlugHall$Outcome" "lines" "I") ∈ lw_all := lw_g (lw_at lw_m1 146 rfl) rfl
theorem q242 : (Jvm.Cond.soleField "PlugHall$Outcome" "lines") ∈ lw_all := lw_g (lw_at lw_m1 147 rfl) rfl
theorem q243 : (Jvm.Cond.lays "PlugHall$Outcome" "PlugHall$Outcome" "punched" "I") ∈ lw_all := lw_g (lw_at lw_m1 148 rfl) rfl
theorem q244 : (Jvm.Cond.soleField "PlugHall$Outcome" "punched") ∈ lw_all := lw_g (lw_at lw_m1 149 rfl) rfl
theorem q245 : (Jvm.Cond.lays "PlugHall$Outcome" "PlugHall$Outcome" "overs" "I") ∈ lw_all := lw_g (lw_at lw_m1 150 rfl) rfl
theorem q246 : (Jvm.Cond.soleField "PlugHall$Outcome" "overs") ∈ lw_all := lw_g (lw_at lw_m1 151 rfl) rfl
theorem q247 : (Jvm.Cond.lays "PlugHall$Outcome" "PlugHall$Outcome" "jamOne" "I") ∈ lw_all := lw_g (lw_at lw_m1 152 rfl) rfl
theorem q248 : (Jvm.Cond.soleField "PlugHall$Outcome" "jamOne") ∈ lw_all := lw_g (lw_at lw_m1 153 rfl) rfl
theorem q249 : (Jvm.Cond.lays "PlugHall$Outcome" "PlugHall$Outcome" "jamOther" "I") ∈ lw_all := lw_g (lw_at lw_m1 154 rfl) rfl
theorem q250 : (Jvm.Cond.soleField "PlugHall$Outcome" "jamOther") ∈ lw_all := lw_g (lw_at lw_m1 155 rfl) rfl
theorem q251 : (Jvm.Cond.laysFinal "PlugHall$Outcome" "PlugHall$Outcome" "line" "[[B") ∈ lw_all := lw_g (lw_at lw_m1 156 rfl) rfl
theorem q252 : (Jvm.Cond.soleField "PlugHall$Outcome" "line") ∈ lw_all := lw_g (lw_at lw_m1 157 rfl) rfl
theorem q253 : (Jvm.Cond.laysFinal "PlugHall$Outcome" "PlugHall$Outcome" "made" "[[B") ∈ lw_all := lw_g (lw_at lw_m1 158 rfl) rfl
theorem q254 : (Jvm.Cond.soleField "PlugHall$Outcome" "made") ∈ lw_all := lw_g (lw_at lw_m1 159 rfl) rfl
theorem q255 : (Jvm.Cond.laysFinal "PlugHall$Outcome" "PlugHall$Outcome" "wheel" "[I") ∈ lw_all := lw_g (lw_at lw_m1 160 rfl) rfl
theorem q256 : (Jvm.Cond.soleField "PlugHall$Outcome" "wheel") ∈ lw_all := lw_g (lw_at lw_m1 161 rfl) rfl
theorem q257 : (Jvm.Cond.superclass "PlugHall$Outcome" "java/lang/Object") ∈ lw_all := lw_g (lw_at lw_m1 162 rfl) rfl
theorem q258 : (Jvm.Cond.classLink "PlugHall" (54 : Nat) "PlugHall$Job") ∈ lw_all := lw_g (lw_at lw_m1 163 rfl) rfl
theorem q259 : (Jvm.Cond.instantiable "PlugHall$Job" (10 : Nat)) ∈ lw_all := lw_g (lw_at lw_m1 164 rfl) rfl
theorem q260 : (Jvm.Cond.methodLinkNest "PlugHall" (56 : Nat) ({ cls := "PlugHall$Job", name := "<init>", desc := "()V" } : Jvm.MethodName) "PlugHall") ∈ lw_tbl := lw_at lw_m1 165 rfl
theorem q261 : (Jvm.Cond.instanceMethod ({ cls := "PlugHall$Job", name := "<init>", desc := "()V" } : Jvm.MethodName)) ∈ lw_all := lw_g (lw_at lw_m1 166 rfl) rfl
theorem q262 : (Jvm.Cond.code ({ cls := "PlugHall$Job", name := "<init>", desc := "()V" } : Jvm.MethodName) prog_5_method_1_code (1 : Nat) (Option.none : Option Jvm.ClassFile.FieldType)) ∈ lw_all := lw_g (lw_at lw_m1 167 rfl) rfl
theorem q263 : (Jvm.Cond.methodLink "PlugHall$Job" (3 : Nat) ({ cls := "java/lang/Object", name := "<init>", desc := "()V" } : Jvm.MethodName)) ∈ lw_all := lw_g (lw_at lw_m1 168 rfl) rfl
theorem q264 : (Jvm.Cond.classLink "PlugHall$Job" (11 : Nat) "java/lang/String") ∈ lw_all := lw_g (lw_at lw_m1 169 rfl) rfl
theorem q265 : (Jvm.Cond.arrayOver (Jvm.ClassFile.FieldType.object "java/lang/String")) ∈ lw_tbl := lw_at lw_m1 170 rfl
theorem q266 : (Jvm.Cond.fieldLink "PlugHall$Job" (13 : Nat) "PlugHall$Job" "name" "[Ljava/lang/String;") ∈ lw_all := lw_g (lw_at lw_m1 171 rfl) rfl
theorem q267 : (Jvm.Cond.fieldLinkNest "PlugHall$JobReader" (100 : Nat) "PlugHall$Job" "name" "[Ljava/lang/String;" "PlugHall") ∈ lw_tbl := lw_at lw_m1 172 rfl
theorem q268 : (Jvm.Cond.fieldLink "PlugHall$Job" (17 : Nat) "PlugHall$Job" "from" "[I") ∈ lw_all := lw_g (lw_at lw_m1 173 rfl) rfl
theorem q269 : (Jvm.Cond.fieldLinkNest "PlugHall$JobReader" (104 : Nat) "PlugHall$Job" "from" "[I" "PlugHall") ∈ lw_tbl := lw_at lw_m1 174 rfl
theorem q270 : (Jvm.Cond.fieldLinkNest "PlugHall$Maker" (68 : Nat) "PlugHall$Job" "from" "[I" "PlugHall") ∈ lw_tbl := lw_at lw_m1 175 rfl
theorem q271 : (Jvm.Cond.fieldLink "PlugHall$Job" (21 : Nat) "PlugHall$Job" "to" "[I") ∈ lw_all := lw_g (lw_at lw_m1 176 rfl) rfl
theorem q272 : (Jvm.Cond.fieldLinkNest "PlugHall$JobReader" (108 : Nat) "PlugHall$Job" "to" "[I" "PlugHall") ∈ lw_tbl := lw_at lw_m1 177 rfl
theorem q273 : (Jvm.Cond.fieldLinkNest "PlugHall$Maker" (65 : Nat) "PlugHall$Job" "to" "[I" "PlugHall") ∈ lw_tbl := lw_at lw_m1 178 rfl
theorem q274 : (Jvm.Cond.fieldLink "PlugHall$Job" (24 : Nat) "PlugHall$Job" "breaks" "[I") ∈ lw_all := lw_g (lw_at lw_m1 179 rfl) rfl
theorem q275 : (Jvm.Cond.fieldLinkNest "PlugHall$Maker" (45 : Nat) "PlugHall$Job" "breaks" "[I" "PlugHall") ∈ lw_tbl := lw_at lw_m1 180 rfl
theorem q276 : (Jvm.Cond.fieldLinkNest "PlugHall$JobReader" (117 : Nat) "PlugHall$Job" "breaks" "[I" "PlugHall") ∈ lw_tbl := lw_at lw_m1 181 rfl
theorem q277 : (Jvm.Cond.fieldLink "PlugHall$Job" (27 : Nat) "PlugHall$Job" "field" "[I") ∈ lw_all := lw_g (lw_at lw_m1 182 rfl) rfl
theorem q278 : (Jvm.Cond.fieldLinkNest "PlugHall$Maker" (62 : Nat) "PlugHall$Job" "field" "[I" "PlugHall") ∈ lw_tbl := lw_at lw_m1 183 rfl
theorem q279 : (Jvm.Cond.fieldLinkNest "PlugHall$JobReader" (122 : Nat) "PlugHall$Job" "field" "[I" "PlugHall") ∈ lw_tbl := lw_at lw_m1 184 rfl
theorem q280 : (Jvm.Cond.fieldLink "PlugHall$Job" (30 : Nat) "PlugHall$Job" "wide" "[I") ∈ lw_all := lw_g (lw_at lw_m1 185 rfl) rfl
theorem q281 : (Jvm.Cond.fieldLinkNest "PlugHall$Maker" (81 : Nat) "PlugHall$Job" "wide" "[I" "PlugHall") ∈ lw_tbl := lw_at lw_m1 186 rfl
theorem q282 : (Jvm.Cond.fieldLinkNest "PlugHall$JobReader" (124 : Nat) "PlugHall$Job" "wide" "[I" "PlugHall") ∈ lw_tbl := lw_at lw_m1 187 rfl
theorem q283 : (Jvm.Cond.fieldLinkNest "PlugHall" (318 : Nat) "PlugHall$Job" "wide" "[I" "PlugHall") ∈ lw_tbl := lw_at lw_m1 188 rfl
theorem q284 : (Jvm.Cond.fieldLink "PlugHall$Job" (33 : Nat) "PlugHall$Job" "order" "[I") ∈ lw_all := lw_g (lw_at lw_m1 189 rfl) rfl
theorem q285 : (Jvm.Cond.fieldLinkNest "PlugHall$Maker" (78 : Nat) "PlugHall$Job" "order" "[I" "PlugHall") ∈ lw_tbl := lw_at lw_m1 190 rfl
theorem q286 : (Jvm.Cond.fieldLinkNest "PlugHall$JobReader" (127 : Nat) "PlugHall$Job" "order" "[I" "PlugHall") ∈ lw_tbl := lw_at lw_m1 191 rfl
theorem q287 : (Jvm.Cond.fieldLinkNest "PlugHall" (312 : Nat) "PlugHall$Job" "order" "[I" "PlugHall") ∈ lw_tbl := lw_at lw_m1 192 rfl
theorem q288 : (Jvm.Cond.fieldLink "PlugHall$Job" (36 : Nat) "PlugHall$Job" "over" "[I") ∈ lw_all := lw_g (lw_at lw_m1 193 rfl) rfl
theorem q289 : (Jvm.Cond.fieldLinkNest "PlugHall$Maker" (71 : Nat) "PlugHall$Job" "over" "[I" "PlugHall") ∈ lw_tbl := lw_at lw_m1 194 rfl
theorem q290 : (Jvm.Cond.fieldLinkNest "PlugHall$JobReader" (132 : Nat) "PlugHall$Job" "over" "[I" "PlugHall") ∈ lw_tbl := lw_at lw_m1 195 rfl
theorem q291 : (Jvm.Cond.fieldLink "PlugHall$Job" (39 : Nat) "PlugHall$Job" "fields" "I") ∈ lw_all := lw_g (lw_at lw_m1 196 rfl) rfl
theorem q292 : (Jvm.Cond.fieldLinkNest "PlugHall$JobReader" (81 : Nat) "PlugHall$Job" "fields" "I" "PlugHall") ∈ lw_tbl := lw_at lw_m1 197 rfl
theorem q293 : (Jvm.Cond.fieldLinkNest "PlugHall$Maker" (50 : Nat) "PlugHall$Job" "wants" "I" "PlugHall") ∈ lw_tbl := lw_at lw_m1 198 rfl
theorem q294 : (Jvm.Cond.fieldLinkNest "PlugHall$JobReader" (119 : Nat) "PlugHall$Job" "wants" "I" "PlugHall") ∈ lw_tbl := lw_at lw_m1 199 rfl
theorem q295 : (Jvm.Cond.fieldLinkNest "PlugHall" (273 : Nat) "PlugHall$Job" "wants" "I" "PlugHall") ∈ lw_tbl := lw_at lw_m1 200 rfl
theorem q296 : (Jvm.Cond.laysFinal "PlugHall$Job" "PlugHall$Job" "name" "[Ljava/lang/String;") ∈ lw_all := lw_g (lw_at lw_m1 201 rfl) rfl
theorem q297 : (Jvm.Cond.soleField "PlugHall$Job" "name") ∈ lw_all := lw_g (lw_at lw_m1 202 rfl) rfl
theorem q298 : (Jvm.Cond.laysFinal "PlugHall$Job" "PlugHall$Job" "from" "[I") ∈ lw_all := lw_g (lw_at lw_m1 203 rfl) rfl
theorem q299 : (Jvm.Cond.soleField "PlugHall$Job" "from") ∈ lw_all := lw_g (lw_at lw_m1 204 rfl) rfl
theorem q300 : (Jvm.Cond.laysFinal "PlugHall$Job" "PlugHall$Job" "to" "[I") ∈ lw_all := lw_g (lw_at lw_m1 205 rfl) rfl
theorem q301 : (Jvm.Cond.soleField "PlugHall$Job" "to") ∈ lw_all := lw_g (lw_at lw_m1 206 rfl) rfl
theorem q302 : (Jvm.Cond.laysFinal "PlugHall$Job" "PlugHall$Job" "breaks" "[I") ∈ lw_all := lw_g (lw_at lw_m1 207 rfl) rfl
theorem q303 : (Jvm.Cond.soleField "PlugHall$Job" "breaks") ∈ lw_all := lw_g (lw_at lw_m1 208 rfl) rfl
theorem q304 : (Jvm.Cond.laysFinal "PlugHall$Job" "PlugHall$Job" "field" "[I") ∈ lw_all := lw_g (lw_at lw_m1 209 rfl) rfl
theorem q305 : (Jvm.Cond.soleField "PlugHall$Job" "field") ∈ lw_all := lw_g (lw_at lw_m1 210 rfl) rfl
theorem q306 : (Jvm.Cond.laysFinal "PlugHall$Job" "PlugHall$Job" "wide" "[I") ∈ lw_all := lw_g (lw_at lw_m1 211 rfl) rfl
theorem q307 : (Jvm.Cond.soleField "PlugHall$Job" "wide") ∈ lw_all := lw_g (lw_at lw_m1 212 rfl) rfl
theorem q308 : (Jvm.Cond.laysFinal "PlugHall$Job" "PlugHall$Job" "order" "[I") ∈ lw_all := lw_g (lw_at lw_m1 213 rfl) rfl
theorem q309 : (Jvm.Cond.soleField "PlugHall$Job" "order") ∈ lw_all := lw_g (lw_at lw_m1 214 rfl) rfl
theorem q310 : (Jvm.Cond.laysFinal "PlugHall$Job" "PlugHall$Job" "over" "[I") ∈ lw_all := lw_g (lw_at lw_m1 215 rfl) rfl
theorem q311 : (Jvm.Cond.soleField "PlugHall$Job" "over") ∈ lw_all := lw_g (lw_at lw_m1 216 rfl) rfl
theorem q312 : (Jvm.Cond.lays "PlugHall$Job" "PlugHall$Job" "fields" "I") ∈ lw_all := lw_g (lw_at lw_m1 217 rfl) rfl
theorem q313 : (Jvm.Cond.soleField "PlugHall$Job" "fields") ∈ lw_all := lw_g (lw_at lw_m1 218 rfl) rfl
theorem q314 : (Jvm.Cond.lays "PlugHall$Job" "PlugHall$Job" "wants" "I") ∈ lw_all := lw_g (lw_at lw_m1 219 rfl) rfl
theorem q315 : (Jvm.Cond.soleField "PlugHall$Job" "wants") ∈ lw_all := lw_g (lw_at lw_m1 220 rfl) rfl
theorem q316 : (Jvm.Cond.superclass "PlugHall$Job" "java/lang/Object") ∈ lw_all := lw_g (lw_at lw_m1 221 rfl) rfl
theorem q317 : (Jvm.Cond.arrayOver (Jvm.ClassFile.FieldType.object "PlugHall$Board")) ∈ lw_tbl := lw_at lw_m1 222 rfl
theorem q318 : (Jvm.Cond.classLink "PlugHall" (106 : Nat) "[[I") ∈ lw_all := lw_g (lw_at lw_m1 223 rfl) rfl
theorem q319 : (Jvm.Cond.arrayOver (Jvm.ClassFile.FieldType.array Jvm.ClassFile.FieldType.int)) ∈ lw_tbl := lw_at lw_m1 224 rfl
theorem q320 : (Jvm.Cond.instantiable "PlugHall$Box" (2 : Nat)) ∈ lw_all := lw_g (lw_at lw_m1 225 rfl) rfl
theorem q321 : (Jvm.Cond.methodLinkNest "PlugHall" (111 : Nat) ({ cls := "PlugHall$Box", name := "<init>", desc := "()V" } : Jvm.MethodName) "PlugHall") ∈ lw_tbl := lw_at lw_m1 226 rfl
theorem q322 : (Jvm.Cond.instanceMethod ({ cls := "PlugHall$Box", name := "<init>", desc := "()V" } : Jvm.MethodName)) ∈ lw_all := lw_g (lw_at lw_m1 227 rfl) rfl
theorem q323 : (Jvm.Cond.code ({ cls := "PlugHall$Box", name := "<init>", desc := "()V" } : Jvm.MethodName) prog_3_method_1_code (1 : Nat) (Option.none : Option Jvm.ClassFile.FieldType)) ∈ lw_all := lw_g (lw_at lw_m1 228 rfl) rfl
theorem q324 : (Jvm.Cond.methodLink "PlugHall$Box" (3 : Nat) ({ cls := "java/lang/Object", name := "<init>", desc := "()V" } : Jvm.MethodName)) ∈ lw_all := lw_g (lw_at lw_m1 229 rfl) rfl
theorem q325 : (Jvm.Cond.classLink "PlugHall$Box" (9 : Nat) "[B") ∈ lw_all := lw_g (lw_at lw_m1 230 rfl) rfl
theorem q326 : (Jvm.Cond.fieldLink "PlugHall$Box" (11 : Nat) "PlugHall$Box" "card" "[[B") ∈ lw_all := lw_g (lw_at lw_m1 231 rfl) rfl
theorem q327 : (Jvm.Cond.fieldLinkNest "PlugHall" (133 : Nat) "PlugHall$Box" "card" "[[B" "PlugHall") ∈ lw_tbl := lw_at lw_m1 232 rfl
theorem q328 : (Jvm.Cond.fieldLinkNest "PlugHall" (127 : Nat) "PlugHall$Box" "many" "I" "PlugHall") ∈ lw_tbl := lw_at lw_m1 233 rfl
theorem q329 : (Jvm.Cond.laysFinal "PlugHall$Box" "PlugHall$Box" "card" "[[B") ∈ lw_all := lw_g (lw_at lw_m1 234 rfl) rfl
theorem q330 : (Jvm.Cond.soleField "PlugHall$Box" "card") ∈ lw_all := lw_g (lw_at lw_m1 235 rfl) rfl
theorem q331 : (Jvm.Cond.lays "PlugHall$Box" "PlugHall$Box" "many" "I") ∈ lw_all := lw_g (lw_at lw_m1 236 rfl) rfl
theorem q332 : (Jvm.Cond.soleField "PlugHall$Box" "many") ∈ lw_all := lw_g (lw_at lw_m1 237 rfl) rfl
theorem q333 : (Jvm.Cond.superclass "PlugHall$Box" "java/lang/Object") ∈ lw_all := lw_g (lw_at lw_m1 238 rfl) rfl
theorem q334 : (Jvm.Cond.arrayClass Jvm.ClassFile.FieldType.boolean) ∈ lw_all := lw_g (lw_at lw_m1 239 rfl) rfl
theorem q335 : (Jvm.Cond.fieldLink "PlugHall" (13 : Nat) "PlugHall" "tape" "[B") ∈ lw_all := lw_g (lw_at lw_m2 0 rfl) rfl
theorem q336 : (Jvm.Cond.fieldLink "PlugHall" (112 : Nat) "PlugHall" "taped" "I") ∈ lw_all := lw_g (lw_at lw_m2 1 rfl) rfl
theorem q337 : (Jvm.Cond.fieldLink "PlugHall" (150 : Nat) "PlugHall" "fault" "I") ∈ lw_all := lw_g (lw_at lw_m2 2 rfl) rfl
theorem q338 : (Jvm.Cond.fieldLink "PlugHall" (19 : Nat) "PlugHall" "boxes" "[LPlugHall$Box;") ∈ lw_all := lw_g (lw_at lw_m2 3 rfl) rfl
theorem q339 : (Jvm.Cond.fieldLink "PlugHall" (26 : Nat) "PlugHall" "board" "LPlugHall$Board;") ∈ lw_all := lw_g (lw_at lw_m2 4 rfl) rfl
theorem q340 : (Jvm.Cond.fieldLink "PlugHall" (33 : Nat) "PlugHall" "machine" "LPlugHall$Machine;") ∈ lw_all := lw_g (lw_at lw_m2 5 rfl) rfl
theorem q341 : (Jvm.Cond.fieldLink "PlugHall" (40 : Nat) "PlugHall" "latest" "LPlugHall$Outcome;") ∈ lw_all := lw_g (lw_at lw_m2 6 rfl) rfl
theorem q342 : (Jvm.Cond.fieldLink "PlugHall" (44 : Nat) "PlugHall" "whole" "LPlugHall$Outcome;") ∈ lw_all := lw_g (lw_at lw_m2 7 rfl) rfl
theorem q343 : (Jvm.Cond.fieldLink "PlugHall" (47 : Nat) "PlugHall" "trial" "LPlugHall$Outcome;") ∈ lw_all := lw_g (lw_at lw_m2 8 rfl) rfl
theorem q344 : (Jvm.Cond.fieldLink "PlugHall" (177 : Nat) "PlugHall" "hasRun" "Z") ∈ lw_all := lw_g (lw_at lw_m2 9 rfl) rfl
theorem q345 : (Jvm.Cond.fieldLink "PlugHall" (50 : Nat) "PlugHall" "found" "[I") ∈ lw_all := lw_g (lw_at lw_m2 10 rfl) rfl
theorem q346 : (Jvm.Cond.fieldLink "PlugHall" (222 : Nat) "PlugHall" "foundMany" "I") ∈ lw_all := lw_g (lw_at lw_m2 11 rfl) rfl
theorem q347 : (Jvm.Cond.fieldLink "PlugHall" (254 : Nat) "PlugHall" "testSet" "I") ∈ lw_all := lw_g (lw_at lw_m2 12 rfl) rfl
theorem q348 : (Jvm.Cond.fieldLink "PlugHall" (261 : Nat) "PlugHall" "shown" "I") ∈ lw_all := lw_g (lw_at lw_m2 13 rfl) rfl
theorem q349 : (Jvm.Cond.fieldLink "PlugHall" (57 : Nat) "PlugHall" "job" "LPlugHall$Job;") ∈ lw_all := lw_g (lw_at lw_m2 14 rfl) rfl
theorem q350 : (Jvm.Cond.fieldLink "PlugHall" (61 : Nat) "PlugHall" "fewest" "[I") ∈ lw_all := lw_g (lw_at lw_m2 15 rfl) rfl
theorem q351 : (Jvm.Cond.fieldLink "PlugHall" (64 : Nat) "PlugHall" "runOf" "[I") ∈ lw_all := lw_g (lw_at lw_m2 16 rfl) rfl
theorem q352 : (Jvm.Cond.fieldLink "PlugHall" (67 : Nat) "PlugHall" "canBe" "[Z") ∈ lw_all := lw_g (lw_at lw_m2 17 rfl) rfl
theorem q353 : (Jvm.Cond.fieldLink "PlugHall" (276 : Nat) "PlugHall" "runMany" "I") ∈ lw_all := lw_g (lw_at lw_m2 18 rfl) rfl
theorem q354 : (Jvm.Cond.fieldLink "PlugHall" (71 : Nat) "PlugHall" "aim" "LPlugHall$Outcome;") ∈ lw_all := lw_g (lw_at lw_m2 19 rfl) rfl
theorem q355 : (Jvm.Cond.fieldLink "PlugHall" (74 : Nat) "PlugHall" "wantedMany" "I") ∈ lw_all := lw_g (lw_at lw_m2 20 rfl) rfl
theorem q356 : (Jvm.Cond.fieldLink "PlugHall" (334 : Nat) "PlugHall" "neededSet" "I") ∈ lw_all := lw_g (lw_at lw_m2 21 rfl) rfl
theorem q357 : (Jvm.Cond.fieldLink "PlugHall" (78 : Nat) "PlugHall" "unseen" "[I") ∈ lw_all := lw_g (lw_at lw_m2 22 rfl) rfl
theorem q358 : (Jvm.Cond.fieldLink "PlugHall" (337 : Nat) "PlugHall" "unseenMany" "I") ∈ lw_all := lw_g (lw_at lw_m2 23 rfl) rfl
theorem q359 : (Jvm.Cond.fieldLink "PlugHall" (81 : Nat) "PlugHall" "moveWire" "[I") ∈ lw_all := lw_g (lw_at lw_m2 24 rfl) rfl
theorem q360 : (Jvm.Cond.fieldLink "PlugHall" (84 : Nat) "PlugHall" "moveEnd" "[I") ∈ lw_all := lw_g (lw_at lw_m2 25 rfl) rfl
theorem q361 : (Jvm.Cond.fieldLink "PlugHall" (87 : Nat) "PlugHall" "moveHub" "[I") ∈ lw_all := lw_g (lw_at lw_m2 26 rfl) rfl
theorem q362 : (Jvm.Cond.fieldLink "PlugHall" (365 : Nat) "PlugHall" "moveMany" "I") ∈ lw_all := lw_g (lw_at lw_m2 27 rfl) rfl
theorem q363 : (Jvm.Cond.fieldLink "PlugHall" (90 : Nat) "PlugHall" "bent" "LPlugHall$Board;") ∈ lw_all := lw_g (lw_at lw_m2 28 rfl) rfl
theorem q364 : (Jvm.Cond.fieldLink "PlugHall" (93 : Nat) "PlugHall" "shelf" "[LPlugHall$Board;") ∈ lw_all := lw_g (lw_at lw_m2 29 rfl) rfl
theorem q365 : (Jvm.Cond.fieldLink "PlugHall" (97 : Nat) "PlugHall" "plan" "[I") ∈ lw_all := lw_g (lw_at lw_m2 30 rfl) rfl
theorem q366 : (Jvm.Cond.fieldLink "PlugHall" (100 : Nat) "PlugHall" "fridays" "[I") ∈ lw_all := lw_g (lw_at lw_m2 31 rfl) rfl
theorem q367 : (Jvm.Cond.fieldLink "PlugHall" (103 : Nat) "PlugHall" "tried" "[I") ∈ lw_all := lw_g (lw_at lw_m2 32 rfl) rfl
theorem q368 : (Jvm.Cond.fieldLink "PlugHall" (108 : Nat) "PlugHall" "setting" "[[I") ∈ lw_all := lw_g (lw_at lw_m2 33 rfl) rfl
theorem q369 : (Jvm.Cond.fieldLink "PlugHall" (399 : Nat) "PlugHall" "planMany" "I") ∈ lw_all := lw_g (lw_at lw_m2 34 rfl) rfl
theorem q370 : (Jvm.Cond.fieldLink "PlugHall" (393 : Nat) "PlugHall" "planEnd" "I") ∈ lw_all := lw_g (lw_at lw_m2 35 rfl) rfl
theorem q371 : (Jvm.Cond.laysFinal "PlugHall" "PlugHall" "tape" "[B") ∈ lw_all := lw_g (lw_at lw_m2 36 rfl) rfl
theorem q372 : (Jvm.Cond.soleField "PlugHall" "tape") ∈ lw_all := lw_g (lw_at lw_m2 37 rfl) rfl
theorem q373 : (Jvm.Cond.lays "PlugHall" "PlugHall" "taped" "I") ∈ lw_all := lw_g (lw_at lw_m2 38 rfl) rfl
theorem q374 : (Jvm.Cond.soleField "PlugHall" "taped") ∈ lw_all := lw_g (lw_at lw_m2 39 rfl) rfl
theorem q375 : (Jvm.Cond.lays "PlugHall" "PlugHall" "fault" "I") ∈ lw_all := lw_g (lw_at lw_m2 40 rfl) rfl
theorem q376 : (Jvm.Cond.soleField "PlugHall" "fault") ∈ lw_all := lw_g (lw_at lw_m2 41 rfl) rfl
theorem q377 : (Jvm.Cond.laysFinal "PlugHall" "PlugHall" "boxes" "[LPlugHall$Box;") ∈ lw_all := lw_g (lw_at lw_m2 42 rfl) rfl
theorem q378 : (Jvm.Cond.soleField "PlugHall" "boxes") ∈ lw_all := lw_g (lw_at lw_m2 43 rfl) rfl
theorem q379 : (Jvm.Cond.lays "PlugHall" "PlugHall" "board" "LPlugHall$Board;") ∈ lw_all := lw_g (lw_at lw_m2 44 rfl) rfl
theorem q380 : (Jvm.Cond.soleField "PlugHall" "board") ∈ lw_all := lw_g (lw_at lw_m2 45 rfl) rfl
theorem q381 : (Jvm.Cond.laysFinal "PlugHall" "PlugHall" "machine" "LPlugHall$Machine;") ∈ lw_all := lw_g (lw_at lw_m2 46 rfl) rfl
theorem q382 : (Jvm.Cond.soleField "PlugHall" "machine") ∈ lw_all := lw_g (lw_at lw_m2 47 rfl) rfl
theorem q383 : (Jvm.Cond.laysFinal "PlugHall" "PlugHall" "latest" "LPlugHall$Outcome;") ∈ lw_all := lw_g (lw_at lw_m2 48 rfl) rfl
theorem q384 : (Jvm.Cond.soleField "PlugHall" "latest") ∈ lw_all := lw_g (lw_at lw_m2 49 rfl) rfl
theorem q385 : (Jvm.Cond.laysFinal "PlugHall" "PlugHall" "whole" "LPlugHall$Outcome;") ∈ lw_all := lw_g (lw_at lw_m2 50 rfl) rfl
theorem q386 : (Jvm.Cond.soleField "PlugHall" "whole") ∈ lw_all := lw_g (lw_at lw_m2 51 rfl) rfl
theorem q387 : (Jvm.Cond.laysFinal "PlugHall" "PlugHall" "trial" "LPlugHall$Outcome;") ∈ lw_all := lw_g (lw_at lw_m2 52 rfl) rfl
theorem q388 : (Jvm.Cond.soleField "PlugHall" "trial") ∈ lw_all := lw_g (lw_at lw_m2 53 rfl) rfl
theorem q389 : (Jvm.Cond.lays "PlugHall" "PlugHall" "hasRun" "Z") ∈ lw_all := lw_g (lw_at lw_m2 54 rfl) rfl
theorem q390 : (Jvm.Cond.soleField "PlugHall" "hasRun") ∈ lw_all := lw_g (lw_at lw_m2 55 rfl) rfl
theorem q391 : (Jvm.Cond.laysFinal "PlugHall" "PlugHall" "found" "[I") ∈ lw_all := lw_g (lw_at lw_m2 56 rfl) rfl
theorem q392 : (Jvm.Cond.soleField "PlugHall" "found") ∈ lw_all := lw_g (lw_at lw_m2 57 rfl) rfl
theorem q393 : (Jvm.Cond.lays "PlugHall" "PlugHall" "foundMany" "I") ∈ lw_all := lw_g (lw_at lw_m2 58 rfl) rfl
theorem q394 : (Jvm.Cond.soleField "PlugHall" "foundMany") ∈ lw_all := lw_g (lw_at lw_m2 59 rfl) rfl
theorem q395 : (Jvm.Cond.lays "PlugHall" "PlugHall" "testSet" "I") ∈ lw_all := lw_g (lw_at lw_m2 60 rfl) rfl
theorem q396 : (Jvm.Cond.soleField "PlugHall" "testSet") ∈ lw_all := lw_g (lw_at lw_m2 61 rfl) rfl
theorem q397 : (Jvm.Cond.lays "PlugHall" "PlugHall" "shown" "I") ∈ lw_all := lw_g (lw_at lw_m2 62 rfl) rfl
theorem q398 : (Jvm.Cond.soleField "PlugHall" "shown") ∈ lw_all := lw_g (lw_at lw_m2 63 rfl) rfl
theorem q399 : (Jvm.Cond.lays "PlugHall" "PlugHall" "job" "LPlugHall$Job;") ∈ lw_all := lw_g (lw_at lw_m2 64 rfl) rfl
theorem q400 : (Jvm.Cond.soleField "PlugHall" "job") ∈ lw_all := lw_g (lw_at lw_m2 65 rfl) rfl
theorem q401 : (Jvm.Cond.laysFinal "PlugHall" "PlugHall" "fewest" "[I") ∈ lw_all := lw_g (lw_at lw_m2 66 rfl) rfl
theorem q402 : (Jvm.Cond.soleField "PlugHall" "fewest") ∈ lw_all := lw_g (lw_at lw_m2 67 rfl) rfl
theorem q403 : (Jvm.Cond.laysFinal "PlugHall" "PlugHall" "runOf" "[I") ∈ lw_all := lw_g (lw_at lw_m2 68 rfl) rfl
theorem q404 : (Jvm.Cond.soleField "PlugHall" "runOf") ∈ lw_all := lw_g (lw_at lw_m2 69 rfl) rfl
theorem q405 : (Jvm.Cond.laysFinal "PlugHall" "PlugHall" "canBe" "[Z") ∈ lw_all := lw_g (lw_at lw_m2 70 rfl) rfl
theorem q406 : (Jvm.Cond.soleField "PlugHall" "canBe") ∈ lw_all := lw_g (lw_at lw_m2 71 rfl) rfl
theorem q407 : (Jvm.Cond.lays "PlugHall" "PlugHall" "runMany" "I") ∈ lw_all := lw_g (lw_at lw_m2 72 rfl) rfl
theorem q408 : (Jvm.Cond.soleField "PlugHall" "runMany") ∈ lw_all := lw_g (lw_at lw_m2 73 rfl) rfl
theorem q409 : (Jvm.Cond.laysFinal "PlugHall" "PlugHall" "aim" "LPlugHall$Outcome;") ∈ lw_all := lw_g (lw_at lw_m2 74 rfl) rfl
theorem q410 : (Jvm.Cond.soleField "PlugHall" "aim") ∈ lw_all := lw_g (lw_at lw_m2 75 rfl) rfl
theorem q411 : (Jvm.Cond.lays "PlugHall" "PlugHall" "wantedMany" "I") ∈ lw_all := lw_g (lw_at lw_m2 76 rfl) rfl
theorem q412 : (Jvm.Cond.soleField "PlugHall" "wantedMany") ∈ lw_all := lw_g (lw_at lw_m2 77 rfl) rfl
theorem q413 : (Jvm.Cond.lays "PlugHall" "PlugHall" "neededSet" "I") ∈ lw_all := lw_g (lw_at lw_m2 78 rfl) rfl
theorem q414 : (Jvm.Cond.soleField "PlugHall" "neededSet") ∈ lw_all := lw_g (lw_at lw_m2 79 rfl) rfl
theorem q415 : (Jvm.Cond.laysFinal "PlugHall" "PlugHall" "unseen" "[I") ∈ lw_all := lw_g (lw_at lw_m2 80 rfl) rfl
theorem q416 : (Jvm.Cond.soleField "PlugHall" "unseen") ∈ lw_all := lw_g (lw_at lw_m2 81 rfl) rfl
theorem q417 : (Jvm.Cond.lays "PlugHall" "PlugHall" "unseenMany" "I") ∈ lw_all := lw_g (lw_at lw_m2 82 rfl) rfl
theorem q418 : (Jvm.Cond.soleField "PlugHall" "unseenMany") ∈ lw_all := lw_g (lw_at lw_m2 83 rfl) rfl
theorem q419 : (Jvm.Cond.laysFinal "PlugHall" "PlugHall" "moveWire" "[I") ∈ lw_all := lw_g (lw_at lw_m2 84 rfl) rfl
theorem q420 : (Jvm.Cond.soleField "PlugHall" "moveWire") ∈ lw_all := lw_g (lw_at lw_m2 85 rfl) rfl
theorem q421 : (Jvm.Cond.laysFinal "PlugHall" "PlugHall" "moveEnd" "[I") ∈ lw_all := lw_g (lw_at lw_m2 86 rfl) rfl
theorem q422 : (Jvm.Cond.soleField "PlugHall" "moveEnd") ∈ lw_all := lw_g (lw_at lw_m2 87 rfl) rfl
theorem q423 : (Jvm.Cond.laysFinal "PlugHall" "PlugHall" "moveHub" "[I") ∈ lw_all := lw_g (lw_at lw_m2 88 rfl) rfl
theorem q424 : (Jvm.Cond.soleField "PlugHall" "moveHub") ∈ lw_all := lw_g (lw_at lw_m2 89 rfl) rfl
theorem q425 : (Jvm.Cond.lays "PlugHall" "PlugHall" "moveMany" "I") ∈ lw_all := lw_g (lw_at lw_m2 90 rfl) rfl
theorem q426 : (Jvm.Cond.soleField "PlugHall" "moveMany") ∈ lw_all := lw_g (lw_at lw_m2 91 rfl) rfl
theorem q427 : (Jvm.Cond.laysFinal "PlugHall" "PlugHall" "bent" "LPlugHall$Board;") ∈ lw_all := lw_g (lw_at lw_m2 92 rfl) rfl
theorem q428 : (Jvm.Cond.soleField "PlugHall" "bent") ∈ lw_all := lw_g (lw_at lw_m2 93 rfl) rfl
theorem q429 : (Jvm.Cond.laysFinal "PlugHall" "PlugHall" "shelf" "[LPlugHall$Board;") ∈ lw_all := lw_g (lw_at lw_m2 94 rfl) rfl
theorem q430 : (Jvm.Cond.soleField "PlugHall" "shelf") ∈ lw_all := lw_g (lw_at lw_m2 95 rfl) rfl
theorem q431 : (Jvm.Cond.laysFinal "PlugHall" "PlugHall" "plan" "[I") ∈ lw_all := lw_g (lw_at lw_m2 96 rfl) rfl
theorem q432 : (Jvm.Cond.soleField "PlugHall" "plan") ∈ lw_all := lw_g (lw_at lw_m2 97 rfl) rfl
theorem q433 : (Jvm.Cond.laysFinal "PlugHall" "PlugHall" "fridays" "[I") ∈ lw_all := lw_g (lw_at lw_m2 98 rfl) rfl
theorem q434 : (Jvm.Cond.soleField "PlugHall" "fridays") ∈ lw_all := lw_g (lw_at lw_m2 99 rfl) rfl
theorem q435 : (Jvm.Cond.laysFinal "PlugHall" "PlugHall" "tried" "[I") ∈ lw_all := lw_g (lw_at lw_m2 100 rfl) rfl
theorem q436 : (Jvm.Cond.soleField "PlugHall" "tried") ∈ lw_all := lw_g (lw_at lw_m2 101 rfl) rfl
theorem q437 : (Jvm.Cond.laysFinal "PlugHall" "PlugHall" "setting" "[[I") ∈ lw_all := lw_g (lw_at lw_m2 102 rfl) rfl
theorem q438 : (Jvm.Cond.soleField "PlugHall" "setting") ∈ lw_all := lw_g (lw_at lw_m2 103 rfl) rfl
theorem q439 : (Jvm.Cond.lays "PlugHall" "PlugHall" "planMany" "I") ∈ lw_all := lw_g (lw_at lw_m2 104 rfl) rfl
theorem q440 : (Jvm.Cond.soleField "PlugHall" "planMany") ∈ lw_all := lw_g (lw_at lw_m2 105 rfl) rfl
theorem q441 : (Jvm.Cond.lays "PlugHall" "PlugHall" "planEnd" "I") ∈ lw_all := lw_g (lw_at lw_m2 106 rfl) rfl
theorem q442 : (Jvm.Cond.soleField "PlugHall" "planEnd") ∈ lw_all := lw_g (lw_at lw_m2 107 rfl) rfl
theorem q443 : (Jvm.Cond.superclass "PlugHall" "java/lang/Object") ∈ lw_all := lw_g (lw_at lw_m2 108 rfl) rfl
theorem q444 : (Jvm.Cond.methodLink "PlugHallLaw" (30 : Nat) ({ cls := "PlugHall", name := "feed", desc := "(IIIII)I" } : Jvm.MethodName)) ∈ lw_all := lw_g (lw_at lw_m2 109 rfl) rfl
theorem q445 : (Jvm.Cond.instanceMethod ({ cls := "PlugHall", name := "feed", desc := "(IIIII)I" } : Jvm.MethodName)) ∈ lw_all := lw_g (lw_at lw_m2 110 rfl) rfl
theorem q446 : (Jvm.Cond.selects "PlugHall" ({ cls := "PlugHall", name := "feed", desc := "(IIIII)I" } : Jvm.MethodName) ({ cls := "PlugHall", name := "feed", desc := "(IIIII)I" } : Jvm.MethodName)) ∈ lw_all := lw_g (lw_at lw_m2 111 rfl) rfl
theorem q447 : (Jvm.Cond.code ({ cls := "PlugHall", name := "feed", desc := "(IIIII)I" } : Jvm.MethodName) prog_1_method_6_code (6 : Nat) (Option.some Jvm.ClassFile.FieldType.int)) ∈ lw_all := lw_g (lw_at lw_m2 112 rfl) rfl
theorem q448 : (Jvm.Cond.methodLink "PlugHall" (115 : Nat) ({ cls := "PlugHall", name := "come", desc := "(I)V" } : Jvm.MethodName)) ∈ lw_all := lw_g (lw_at lw_m2 113 rfl) rfl
theorem q449 : (Jvm.Cond.privateMethod ({ cls := "PlugHall", name := "come", desc := "(I)V" } : Jvm.MethodName)) ∈ lw_tbl := lw_at lw_m2 114 rfl
theorem q450 : (Jvm.Cond.instanceMethod ({ cls := "PlugHall", name := "come", desc := "(I)V" } : Jvm.MethodName)) ∈ lw_all := lw_g (lw_at lw_m2 115 rfl) rfl
theorem q451 : (Jvm.Cond.code ({ cls := "PlugHall", name := "come", desc := "(I)V" } : Jvm.MethodName) prog_1_method_5_code (3 : Nat) (Option.none : Option Jvm.ClassFile.FieldType)) ∈ lw_all := lw_g (lw_at lw_m2 116 rfl) rfl
theorem q452 : (Jvm.Cond.methodLink "PlugHallLaw" (35 : Nat) ({ cls := "PlugHall", name := "end", desc := "(I)Z" } : Jvm.MethodName)) ∈ lw_all := lw_g (lw_at lw_m2 117 rfl) rfl
theorem q453 : (Jvm.Cond.instanceMethod ({ cls := "PlugHall", name := "end", desc := "(I)Z" } : Jvm.MethodName)) ∈ lw_all := lw_g (lw_at lw_m2 118 rfl) rfl
theorem q454 : (Jvm.Cond.selects "PlugHall" ({ cls := "PlugHall", name := "end", desc := "(I)Z" } : Jvm.MethodName) ({ cls := "PlugHall", name := "end", desc := "(I)Z" } : Jvm.MethodName)) ∈ lw_all := lw_g (lw_at lw_m2 119 rfl) rfl
theorem q455 : (Jvm.Cond.code ({ cls := "PlugHall", name := "end", desc := "(I)Z" } : Jvm.MethodName) prog_1_method_7_code (2 : Nat) (Option.some Jvm.ClassFile.FieldType.boolean)) ∈ lw_all := lw_g (lw_at lw_m2 120 rfl) rfl
theorem q456 : (Jvm.Cond.methodLink "PlugHallLaw" (40 : Nat) ({ cls := "PlugHall", name := "card", desc := "(I)I" } : Jvm.MethodName)) ∈ lw_all := lw_g (lw_at lw_m2 121 rfl) rfl
theorem q457 : (Jvm.Cond.instanceMethod ({ cls := "PlugHall", name := "card", desc := "(I)I" } : Jvm.MethodName)) ∈ lw_all := lw_g (lw_at lw_m2 122 rfl) rfl
theorem q458 : (Jvm.Cond.selects "PlugHall" ({ cls := "PlugHall", name := "card", desc := "(I)I" } : Jvm.MethodName) ({ cls := "PlugHall", name := "card", desc := "(I)I" } : Jvm.MethodName)) ∈ lw_all := lw_g (lw_at lw_m2 123 rfl) rfl
theorem q459 : (Jvm.Cond.code ({ cls := "PlugHall", name := "card", desc := "(I)I" } : Jvm.MethodName) prog_1_method_11_code (4 : Nat) (Option.some Jvm.ClassFile.FieldType.int)) ∈ lw_all := lw_g (lw_at lw_m2 124 rfl) rfl
theorem q460 : (Jvm.Cond.methodLink "PlugHall" (119 : Nat) ({ cls := "PlugHall", name := "take", desc := "()I" } : Jvm.MethodName)) ∈ lw_all := lw_g (lw_at lw_m2 125 rfl) rfl
theorem q461 : (Jvm.Cond.privateMethod ({ cls := "PlugHall", name := "take", desc := "()I" } : Jvm.MethodName)) ∈ lw_tbl := lw_at lw_m2 126 rfl
theorem q462 : (Jvm.Cond.instanceMethod ({ cls := "PlugHall", name := "take", desc := "()I" } : Jvm.MethodName)) ∈ lw_all := lw_g (lw_at lw_m2 127 rfl) rfl
theorem q463 : (Jvm.Cond.code ({ cls := "PlugHall", name := "take", desc := "()I" } : Jvm.MethodName) prog_1_method_8_code (2 : Nat) (Option.some Jvm.ClassFile.FieldType.int)) ∈ lw_all := lw_g (lw_at lw_m2 128 rfl) rfl
theorem q464 : (Jvm.Cond.methodLink "PlugHall" (123 : Nat) ({ cls := "PlugHall", name := "isBox", desc := "(I)Z" } : Jvm.MethodName)) ∈ lw_all := lw_g (lw_at lw_m2 129 rfl) rfl
theorem q465 : (Jvm.Cond.static ({ cls := "PlugHall", name := "isBox", desc := "(I)Z" } : Jvm.MethodName)) ∈ lw_all := lw_g (lw_at lw_m2 130 rfl) rfl
theorem q466 : (Jvm.Cond.code ({ cls := "PlugHall", name := "isBox", desc := "(I)Z" } : Jvm.MethodName) prog_1_method_9_code (1 : Nat) (Option.some Jvm.ClassFile.FieldType.boolean)) ∈ lw_all := lw_g (lw_at lw_m2 131 rfl) rfl
theorem q467 : (Jvm.Cond.methodLink "PlugHall" (3 : Nat) ({ cls := "PlugHall", name := "isIn", desc := "(III)Z" } : Jvm.MethodName)) ∈ lw_all := lw_g (lw_at lw_m2 132 rfl) rfl
theorem q468 : (Jvm.Cond.static ({ cls := "PlugHall", name := "isIn", desc := "(III)Z" } : Jvm.MethodName)) ∈ lw_all := lw_g (lw_at lw_m2 133 rfl) rfl
theorem q469 : (Jvm.Cond.code ({ cls := "PlugHall", name := "isIn", desc := "(III)Z" } : Jvm.MethodName) prog_1_method_1_code (3 : Nat) (Option.some Jvm.ClassFile.FieldType.boolean)) ∈ lw_all := lw_g (lw_at lw_m2 134 rfl) rfl
theorem q470 : (Jvm.Cond.methodLink "PlugHall" (130 : Nat) ({ cls := "PlugHall", name := "isDigit", desc := "(I)Z" } : Jvm.MethodName)) ∈ lw_all := lw_g (lw_at lw_m2 135 rfl) rfl
theorem q471 : (Jvm.Cond.static ({ cls := "PlugHall", name := "isDigit", desc := "(I)Z" } : Jvm.MethodName)) ∈ lw_all := lw_g (lw_at lw_m2 136 rfl) rfl
theorem q472 : (Jvm.Cond.code ({ cls := "PlugHall", name := "isDigit", desc := "(I)Z" } : Jvm.MethodName) prog_1_method_10_code (1 : Nat) (Option.some Jvm.ClassFile.FieldType.boolean)) ∈ lw_all := lw_g (lw_at lw_m2 137 rfl) rfl
theorem q473 : (Jvm.Cond.methodLink "PlugHall" (137 : Nat) ({ cls := "java/util/Arrays", name := "copyOf", desc := "([BI)[B" } : Jvm.MethodName)) ∈ lw_all := lw_g (lw_at lw_m2 138 rfl) rfl
theorem q474 : (Jvm.Cond.static ({ cls := "java/util/Arrays", name := "copyOf", desc := "([BI)[B" } : Jvm.MethodName)) ∈ lw_all := lw_g (lw_at lw_m2 139 rfl) rfl
theorem q475 : (Jvm.Cond.code ({ cls := "java/util/Arrays", name := "copyOf", desc := "([BI)[B" } : Jvm.MethodName) prog_27_method_121_code (3 : Nat) (Option.some (Jvm.ClassFile.FieldType.array Jvm.ClassFile.FieldType.byte))) ∈ lw_all := lw_g (lw_at lw_m2 140 rfl) rfl
theorem q476 : (Jvm.Cond.methodLink "java/util/Arrays" (310 : Nat) ({ cls := "[B", name := "clone", desc := "()Ljava/lang/Object;" } : Jvm.MethodName)) ∈ lw_all := lw_g (lw_at lw_m2 141 rfl) rfl
theorem q477 : (Jvm.Cond.sameMethod "[B" "java/lang/Object" "clone" "()Ljava/lang/Object;") ∈ lw_all := lw_g (lw_at lw_m2 142 rfl) rfl
theorem q478 : (Jvm.Cond.native ({ cls := "java/lang/Object", name := "clone", desc := "()Ljava/lang/Object;" } : Jvm.MethodName)) ∈ lw_all := lw_g (lw_at lw_m2 143 rfl) rfl
theorem q479 : (Jvm.Cond.instanceMethod ({ cls := "java/lang/Object", name := "clone", desc := "()Ljava/lang/Object;" } : Jvm.MethodName)) ∈ lw_all := lw_g (lw_at lw_m2 144 rfl) rfl
theorem q480 : (Jvm.Cond.selects "[B" ({ cls := "[B", name := "clone", desc := "()Ljava/lang/Object;" } : Jvm.MethodName) ({ cls := "java/lang/Object", name := "clone", desc := "()Ljava/lang/Object;" } : Jvm.MethodName)) ∈ lw_all := lw_g (lw_at lw_m2 145 rfl) rfl
theorem q481 : (Jvm.Cond.castable "[B" "java/lang/Cloneable") ∈ lw_tbl := lw_at lw_m2 146 rfl
theorem q482 : (Jvm.Cond.classLink "java/util/Arrays" (311 : Nat) "[B") ∈ lw_all := lw_g (lw_at lw_m2 147 rfl) rfl
theorem q483 : (Jvm.Cond.methodLink "java/util/Arrays" (304 : Nat) ({ cls := "java/lang/Math", name := "min", desc := "(II)I" } : Jvm.MethodName)) ∈ lw_all := lw_g (lw_at lw_m2 148 rfl) rfl
theorem q484 : (Jvm.Cond.static ({ cls := "java/lang/Math", name := "min", desc := "(II)I" } : Jvm.MethodName)) ∈ lw_all := lw_g (lw_at lw_m2 149 rfl) rfl
theorem q485 : (Jvm.Cond.code ({ cls := "java/lang/Math", name := "min", desc := "(II)I" } : Jvm.MethodName) prog_19_method_69_code (2 : Nat) (Option.some Jvm.ClassFile.FieldType.int)) ∈ lw_all := lw_g (lw_at lw_m2 150 rfl) rfl
theorem q486 : (Jvm.Cond.methodLink "java/util/Arrays" (150 : Nat) ({ cls := "java/lang/System", name := "arraycopy", desc := "(Ljava/lang/Object;ILjava/lang/Object;II)V" } : Jvm.MethodName)) ∈ lw_all := lw_g (lw_at lw_m2 151 rfl) rfl
theorem q487 : (Jvm.Cond.static ({ cls := "java/lang/System", name := "arraycopy", desc := "(Ljava/lang/Object;ILjava/lang/Object;II)V" } : Jvm.MethodName)) ∈ lw_all := lw_g (lw_at lw_m2 152 rfl) rfl
theorem q488 : (Jvm.Cond.native ({ cls := "java/lang/System", name := "arraycopy", desc := "(Ljava/lang/Object;ILjava/lang/Object;II)V" } : Jvm.MethodName)) ∈ lw_all := lw_g (lw_at lw_m2 153 rfl) rfl
theorem q489 : (Jvm.Cond.methodLink "PlugHallLaw" (44 : Nat) ({ cls := "PlugHall", name := "cards", desc := "(I)I" } : Jvm.MethodName)) ∈ lw_all := lw_g (lw_at lw_m2 154 rfl) rfl
theorem q490 : (Jvm.Cond.instanceMethod ({ cls := "PlugHall", name := "cards", desc := "(I)I" } : Jvm.MethodName)) ∈ lw_all := lw_g (lw_at lw_m2 155 rfl) rfl
theorem q491 : (Jvm.Cond.selects "PlugHall" ({ cls := "PlugHall", name := "cards", desc := "(I)I" } : Jvm.MethodName) ({ cls := "PlugHall", name := "cards", desc := "(I)I" } : Jvm.MethodName)) ∈ lw_all := lw_g (lw_at lw_m2 156 rfl) rfl
theorem q492 : (Jvm.Cond.code ({ cls := "PlugHall", name := "cards", desc := "(I)I" } : Jvm.MethodName) prog_1_method_12_code (2 : Nat) (Option.some Jvm.ClassFile.FieldType.int)) ∈ lw_all := lw_g (lw_at lw_m2 157 rfl) rfl
theorem q493 : (Jvm.Cond.methodLink "PlugHallLaw" (58 : Nat) ({ cls := "PlugHall", name := "empty", desc := "(I)I" } : Jvm.MethodName)) ∈ lw_all := lw_g (lw_at lw_m2 158 rfl) rfl
theorem q494 : (Jvm.Cond.instanceMethod ({ cls := "PlugHall", name := "empty", desc := "(I)I" } : Jvm.MethodName)) ∈ lw_all := lw_g (lw_at lw_m2 159 rfl) rfl
theorem q495 : (Jvm.Cond.selects "PlugHall" ({ cls := "PlugHall", name := "empty", desc := "(I)I" } : Jvm.MethodName) ({ cls := "PlugHall", name := "empty", desc := "(I)I" } : Jvm.MethodName)) ∈ lw_all := lw_g (lw_at lw_m2 160 rfl) rfl
theorem q496 : (Jvm.Cond.code ({ cls := "PlugHall", name := "empty", desc := "(I)I" } : Jvm.MethodName) prog_1_method_15_code (3 : Nat) (Option.some Jvm.ClassFile.FieldType.int)) ∈ lw_all := lw_g (lw_at lw_m2 161 rfl) rfl
theorem q497 : (Jvm.Cond.methodLink "PlugHallLaw" (62 : Nat) ({ cls := "PlugHall", name := "board", desc := "()I" } : Jvm.MethodName)) ∈ lw_all := lw_g (lw_at lw_m2 162 rfl) rfl
theorem q498 : (Jvm.Cond.instanceMethod ({ cls := "PlugHall", name := "board", desc := "()I" } : Jvm.MethodName)) ∈ lw_all := lw_g (lw_at lw_m2 163 rfl) rfl
theorem q499 : (Jvm.Cond.selects "PlugHall" ({ cls := "PlugHall", name := "board", desc := "()I" } : Jvm.MethodName) ({ cls := "PlugHall", name := "board", desc := "()I" } : Jvm.MethodName)) ∈ lw_all := lw_g (lw_at lw_m2 164 rfl) rfl
theorem q500 : (Jvm.Cond.codeWith ({ cls := "PlugHall", name := "board", desc := "()I" } : Jvm.MethodName) prog_1_method_16_code (3 : Nat) (Option.some Jvm.ClassFile.FieldType.int) [((10 : Nat), (36 : Nat), (37 : Nat), (165 : Nat))]) ∈ lw_all := lw_g (lw_at lw_m2 165 rfl) rfl
theorem q501 : (Jvm.Cond.classLink "PlugHall" (165 : Nat) "PlugHall$Fault") ∈ lw_all := lw_g (lw_at lw_m2 166 rfl) rfl
theorem q502 : (Jvm.Cond.classLink "PlugHall" (153 : Nat) "PlugHall$Reader") ∈ lw_all := lw_g (lw_at lw_m2 167 rfl) rfl
theorem q503 : (Jvm.Cond.instantiable "PlugHall$Reader" (11 : Nat)) ∈ lw_all := lw_g (lw_at lw_m2 168 rfl) rfl
theorem q504 : (Jvm.Cond.methodLink "PlugHall" (155 : Nat) ({ cls := "PlugHall$Reader", name := "<init>", desc := "([BI)V" } : Jvm.MethodName)) ∈ lw_all := lw_g (lw_at lw_m2 169 rfl) rfl
theorem q505 : (Jvm.Cond.instanceMethod ({ cls := "PlugHall$Reader", name := "<init>", desc := "([BI)V" } : Jvm.MethodName)) ∈ lw_all := lw_g (lw_at lw_m2 170 rfl) rfl
theorem q506 : (Jvm.Cond.code ({ cls := "PlugHall$Reader", name := "<init>", desc := "([BI)V" } : Jvm.MethodName) prog_10_method_1_code (3 : Nat) (Option.none : Option Jvm.ClassFile.FieldType)) ∈ lw_all := lw_g (lw_at lw_m2 171 rfl) rfl
theorem q507 : (Jvm.Cond.methodLink "PlugHall$Reader" (3 : Nat) ({ cls := "PlugHall$Tokens", name := "<init>", desc := "([BII)V" } : Jvm.MethodName)) ∈ lw_all := lw_g (lw_at lw_m2 172 rfl) rfl
theorem q508 : (Jvm.Cond.instanceMethod ({ cls := "PlugHall$Tokens", name := "<init>", desc := "([BII)V" } : Jvm.MethodName)) ∈ lw_all := lw_g (lw_at lw_m2 173 rfl) rfl
theorem q509 : (Jvm.Cond.code ({ cls := "PlugHall$Tokens", name := "<init>", desc := "([BII)V" } : Jvm.MethodName) prog_12_method_1_code (4 : Nat) (Option.none : Option Jvm.ClassFile.FieldType)) ∈ lw_all := lw_g (lw_at lw_m2 174 rfl) rfl
theorem q510 : (Jvm.Cond.methodLink "PlugHall$Tokens" (1 : Nat) ({ cls := "java/lang/Object", name := "<init>", desc := "()V" } : Jvm.MethodName)) ∈ lw_all := lw_g (lw_at lw_m2 175 rfl) rfl
theorem q511 : (Jvm.Cond.stringRef "PlugHall$Tokens" (7 : Nat) "") ∈ lw_tbl := lw_at lw_m2 176 rfl
theorem q512 : (Jvm.Cond.classLink "PlugHall$Reader" (9 : Nat) "PlugHall$Board") ∈ lw_all := lw_g (lw_at lw_m2 177 rfl) rfl
theorem q513 : (Jvm.Cond.methodLinkNest "PlugHall$Reader" (11 : Nat) ({ cls := "PlugHall$Board", name := "<init>", desc := "()V" } : Jvm.MethodName) "PlugHall") ∈ lw_tbl := lw_at lw_m2 178 rfl
theorem q514 : (Jvm.Cond.fieldLink "PlugHall$Reader" (14 : Nat) "PlugHall$Reader" "board" "LPlugHall$Board;") ∈ lw_all := lw_g (lw_at lw_m2 179 rfl) rfl
theorem q515 : (Jvm.Cond.fieldLink "PlugHall$Reader" (20 : Nat) "PlugHall$Reader" "many" "[I") ∈ lw_all := lw_g (lw_at lw_m2 180 rfl) rfl
theorem q516 : (Jvm.Cond.fieldLink "PlugHall$Tokens" (15 : Nat) "PlugHall$Tokens" "tape" "[B") ∈ lw_all := lw_g (lw_at lw_m2 181 rfl) rfl
theorem q517 : (Jvm.Cond.fieldLink "PlugHall$Tokens" (19 : Nat) "PlugHall$Tokens" "size" "I") ∈ lw_all := lw_g (lw_at lw_m2 182 rfl) rfl
theorem q518 : (Jvm.Cond.fieldLink "PlugHall$Tokens" (23 : Nat) "PlugHall$Tokens" "limit" "I") ∈ lw_all := lw_g (lw_at lw_m2 183 rfl) rfl
theorem q519 : (Jvm.Cond.fieldLink "PlugHall$Tokens" (26 : Nat) "PlugHall$Tokens" "to" "I") ∈ lw_all := lw_g (lw_at lw_m2 184 rfl) rfl
theorem q520 : (Jvm.Cond.fieldLink "PlugHall$JobReader" (20 : Nat) "PlugHall$JobReader" "kind" "I") ∈ lw_all := lw_g (lw_at lw_m2 185 rfl) rfl
theorem q521 : (Jvm.Cond.sameField "PlugHall$JobReader" "PlugHall$Tokens" "kind" "I") ∈ lw_all := lw_g (lw_at lw_m2 186 rfl) rfl
theorem q522 : (Jvm.Cond.fieldLink "PlugHall$Reader" (28 : Nat) "PlugHall$Reader" "kind" "I") ∈ lw_all := lw_g (lw_at lw_m2 187 rfl) rfl
theorem q523 : (Jvm.Cond.sameField "PlugHall$Reader" "PlugHall$Tokens" "kind" "I") ∈ lw_all := lw_g (lw_at lw_m2 188 rfl) rfl
theorem q524 : (Jvm.Cond.fieldLink "PlugHall$Tokens" (36 : Nat) "PlugHall$Tokens" "kind" "I") ∈ lw_all := lw_g (lw_at lw_m2 189 rfl) rfl
theorem q525 : (Jvm.Cond.fieldLink "PlugHall$Reader" (56 : Nat) "PlugHall$Reader" "from" "I") ∈ lw_all := lw_g (lw_at lw_m2 190 rfl) rfl
theorem q526 : (Jvm.Cond.sameField "PlugHall$Reader" "PlugHall$Tokens" "from" "I") ∈ lw_all := lw_g (lw_at lw_m2 191 rfl) rfl
theorem q527 : (Jvm.Cond.fieldLink "PlugHall$Tokens" (33 : Nat) "PlugHall$Tokens" "from" "I") ∈ lw_all := lw_g (lw_at lw_m2 192 rfl) rfl
theorem q528 : (Jvm.Cond.fieldLink "PlugHall$JobReader" (111 : Nat) "PlugHall$JobReader" "number" "I") ∈ lw_all := lw_g (lw_at lw_m2 193 rfl) rfl
theorem q529 : (Jvm.Cond.sameField "PlugHall$JobReader" "PlugHall$Tokens" "number" "I") ∈ lw_all := lw_g (lw_at lw_m2 194 rfl) rfl
theorem q530 : (Jvm.Cond.fieldLink "PlugHall$Tokens" (66 : Nat) "PlugHall$Tokens" "number" "I") ∈ lw_all := lw_g (lw_at lw_m2 195 rfl) rfl
theorem q531 : (Jvm.Cond.fieldLink "PlugHall$Tokens" (52 : Nat) "PlugHall$Tokens" "sign" "I") ∈ lw_all := lw_g (lw_at lw_m2 196 rfl) rfl
theorem q532 : (Jvm.Cond.fieldLink "PlugHall$Tokens" (9 : Nat) "PlugHall$Tokens" "word" "Ljava/lang/String;") ∈ lw_all := lw_g (lw_at lw_m2 197 rfl) rfl
theorem q533 : (Jvm.Cond.fieldLink "PlugHall$JobReader" (35 : Nat) "PlugHall$JobReader" "word" "Ljava/lang/String;") ∈ lw_all := lw_g (lw_at lw_m2 198 rfl) rfl
theorem q534 : (Jvm.Cond.sameField "PlugHall$JobReader" "PlugHall$Tokens" "word" "Ljava/lang/String;") ∈ lw_all := lw_g (lw_at lw_m2 199 rfl) rfl
theorem q535 : (Jvm.Cond.fieldLink "PlugHall$Reader" (38 : Nat) "PlugHall$Reader" "word" "Ljava/lang/String;") ∈ lw_all := lw_g (lw_at lw_m2 200 rfl) rfl
theorem q536 : (Jvm.Cond.sameField "PlugHall$Reader" "PlugHall$Tokens" "word" "Ljava/lang/String;") ∈ lw_all := lw_g (lw_at lw_m2 201 rfl) rfl
theorem q537 : (Jvm.Cond.laysFinal "PlugHall$Reader" "PlugHall$Reader" "board" "LPlugHall$Board;") ∈ lw_all := lw_g (lw_at lw_m2 202 rfl) rfl
theorem q538 : (Jvm.Cond.soleField "PlugHall$Reader" "board") ∈ lw_all := lw_g (lw_at lw_m2 203 rfl) rfl
theorem q539 : (Jvm.Cond.laysFinal "PlugHall$Reader" "PlugHall$Reader" "many" "[I") ∈ lw_all := lw_g (lw_at lw_m2 204 rfl) rfl
theorem q540 : (Jvm.Cond.soleField "PlugHall$Reader" "many") ∈ lw_all := lw_g (lw_at lw_m2 205 rfl) rfl
theorem q541 : (Jvm.Cond.laysFinal "PlugHall$Reader" "PlugHall$Tokens" "tape" "[B") ∈ lw_all := lw_g (lw_at lw_m2 206 rfl) rfl
theorem q542 : (Jvm.Cond.soleField "PlugHall$Tokens" "tape") ∈ lw_all := lw_g (lw_at lw_m2 207 rfl) rfl
theorem q543 : (Jvm.Cond.laysFinal "PlugHall$Reader" "PlugHall$Tokens" "size" "I") ∈ lw_all := lw_g (lw_at lw_m2 208 rfl) rfl
theorem q544 : (Jvm.Cond.soleField "PlugHall$Tokens" "size") ∈ lw_all := lw_g (lw_at lw_m2 209 rfl) rfl
theorem q545 : (Jvm.Cond.laysFinal "PlugHall$Reader" "PlugHall$Tokens" "limit" "I") ∈ lw_all := lw_g (lw_at lw_m2 210 rfl) rfl
theorem q546 : (Jvm.Cond.soleField "PlugHall$Tokens" "limit") ∈ lw_all := lw_g (lw_at lw_m2 211 rfl) rfl
theorem q547 : (Jvm.Cond.lays "PlugHall$Reader" "PlugHall$Tokens" "to" "I") ∈ lw_all := lw_g (lw_at lw_m2 212 rfl) rfl
theorem q548 : (Jvm.Cond.soleField "PlugHall$Tokens" "to") ∈ lw_all := lw_g (lw_at lw_m2 213 rfl) rfl
theorem q549 : (Jvm.Cond.lays "PlugHall$Reader" "PlugHall$Tokens" "kind" "I") ∈ lw_all := lw_g (lw_at lw_m2 214 rfl) rfl
theorem q550 : (Jvm.Cond.soleField "PlugHall$Tokens" "kind") ∈ lw_all := lw_g (lw_at lw_m2 215 rfl) rfl
theorem q551 : (Jvm.Cond.lays "PlugHall$Reader" "PlugHall$Tokens" "from" "I") ∈ lw_all := lw_g (lw_at lw_m2 216 rfl) rfl
theorem q552 : (Jvm.Cond.soleField "PlugHall$Tokens" "from") ∈ lw_all := lw_g (lw_at lw_m2 217 rfl) rfl
theorem q553 : (Jvm.Cond.lays "PlugHall$Reader" "PlugHall$Tokens" "number" "I") ∈ lw_all := lw_g (lw_at lw_m2 218 rfl) rfl
theorem q554 : (Jvm.Cond.soleField "PlugHall$Tokens" "number") ∈ lw_all := lw_g (lw_at lw_m2 219 rfl) rfl
theorem q555 : (Jvm.Cond.lays "PlugHall$Reader" "PlugHall$Tokens" "sign" "I") ∈ lw_all := lw_g (lw_at lw_m2 220 rfl) rfl
theorem q556 : (Jvm.Cond.soleField "PlugHall$Tokens" "sign") ∈ lw_all := lw_g (lw_at lw_m2 221 rfl) rfl
theorem q557 : (Jvm.Cond.lays "PlugHall$Reader" "PlugHall$Tokens" "word" "Ljava/lang/String;") ∈ lw_all := lw_g (lw_at lw_m2 222 rfl) rfl
theorem q558 : (Jvm.Cond.soleField "PlugHall$Tokens" "word") ∈ lw_all := lw_g (lw_at lw_m2 223 rfl) rfl
theorem q559 : (Jvm.Cond.superclass "PlugHall$Reader" "PlugHall$Tokens") ∈ lw_all := lw_g (lw_at lw_m2 224 rfl) rfl
theorem q560 : (Jvm.Cond.methodLink "PlugHall" (158 : Nat) ({ cls := "PlugHall$Reader", name := "read", desc := "()LPlugHall$Board;" } : Jvm.MethodName)) ∈ lw_all := lw_g (lw_at lw_m2 225 rfl) rfl
theorem q561 : (Jvm.Cond.instanceMethod ({ cls := "PlugHall$Reader", name := "read", desc := "()LPlugHall$Board;" } : Jvm.MethodName)) ∈ lw_all := lw_g (lw_at lw_m2 226 rfl) rfl
theorem q562 : (Jvm.Cond.selects "PlugHall$Reader" ({ cls := "PlugHall$Reader", name := "read", desc := "()LPlugHall$Board;" } : Jvm.MethodName) ({ cls := "PlugHall$Reader", name := "read", desc := "()LPlugHall$Board;" } : Jvm.MethodName)) ∈ lw_all := lw_g (lw_at lw_m2 227 rfl) rfl
theorem q563 : (Jvm.Cond.code ({ cls := "PlugHall$Reader", name := "read", desc := "()LPlugHall$Board;" } : Jvm.MethodName) prog_10_method_4_code (3 : Nat) (Option.some (Jvm.ClassFile.FieldType.object "PlugHall$Board"))) ∈ lw_all := lw_g (lw_at lw_m2 228 rfl) rfl
theorem q564 : (Jvm.Cond.methodLink "PlugHall$Reader" (59 : Nat) ({ cls := "PlugHall$Reader", name := "go", desc := "()V" } : Jvm.MethodName)) ∈ lw_all := lw_g (lw_at lw_m2 229 rfl) rfl
theorem q565 : (Jvm.Cond.sameMethod "PlugHall$Reader" "PlugHall$Tokens" "go" "()V") ∈ lw_all := lw_g (lw_at lw_m2 230 rfl) rfl
theorem q566 : (Jvm.Cond.declares ({ cls := "PlugHall$Tokens", name := "go", desc := "()V" } : Jvm.MethodName)) ∈ lw_tbl := lw_at lw_m2 231 rfl
theorem q567 : (Jvm.Cond.selects "PlugHall$Reader" ({ cls := "PlugHall$Reader", name := "go", desc := "()V" } : Jvm.MethodName) ({ cls := "PlugHall$Tokens", name := "go", desc := "()V" } : Jvm.MethodName)) ∈ lw_all := lw_g (lw_at lw_m2 232 rfl) rfl
theorem q568 : (Jvm.Cond.instanceMethod ({ cls := "PlugHall$Tokens", name := "go", desc := "()V" } : Jvm.MethodName)) ∈ lw_all := lw_g (lw_at lw_m2 233 rfl) rfl
theorem q569 : (Jvm.Cond.code ({ cls := "PlugHall$Tokens", name := "go", desc := "()V" } : Jvm.MethodName) prog_12_method_5_code (2 : Nat) (Option.none : Option Jvm.ClassFile.FieldType)) ∈ lw_all := lw_g (lw_at lw_m2 234 rfl) rfl
theorem q570 : (Jvm.Cond.methodLink "PlugHall$Tokens" (29 : Nat) ({ cls := "PlugHall$Tokens", name := "byteAt", desc := "(I)I" } : Jvm.MethodName)) ∈ lw_all := lw_g (lw_at lw_m2 235 rfl) rfl
theorem q571 : (Jvm.Cond.privateMethod ({ cls := "PlugHall$Tokens", name := "byteAt", desc := "(I)I" } : Jvm.MethodName)) ∈ lw_tbl := lw_at lw_m2 236 rfl
theorem q572 : (Jvm.Cond.instanceMethod ({ cls := "PlugHall$Tokens", name := "byteAt", desc := "(I)I" } : Jvm.MethodName)) ∈ lw_all := lw_g (lw_at lw_m2 237 rfl) rfl
theorem q573 : (Jvm.Cond.code ({ cls := "PlugHall$Tokens", name := "byteAt", desc := "(I)I" } : Jvm.MethodName) prog_12_method_2_code (2 : Nat) (Option.some Jvm.ClassFile.FieldType.int)) ∈ lw_all := lw_g (lw_at lw_m2 238 rfl) rfl
theorem q574 : (Jvm.Cond.methodLink "PlugHall$Tokens" (39 : Nat) ({ cls := "PlugHall$Tokens", name := "isLetter", desc := "(I)Z" } : Jvm.MethodName)) ∈ lw_all := lw_g (lw_at lw_m2 239 rfl) rfl
theorem q575 : (Jvm.Cond.static ({ cls := "PlugHall$Tokens", name := "isLetter", desc := "(I)Z" } : Jvm.MethodName)) ∈ lw_all := lw_g (lw_at lw_m3 0 rfl) rfl
theorem q576 : (Jvm.Cond.code ({ cls := "PlugHall$Tokens", name := "isLetter", desc := "(I)Z" } : Jvm.MethodName) prog_12_method_4_code (1 : Nat) (Option.some Jvm.ClassFile.FieldType.boolean)) ∈ lw_all := lw_g (lw_at lw_m3 1 rfl) rfl
theorem q577 : (Jvm.Cond.methodLink "PlugHall$Tokens" (43 : Nat) ({ cls := "PlugHall$Tokens", name := "letters", desc := "()V" } : Jvm.MethodName)) ∈ lw_all := lw_g (lw_at lw_m3 2 rfl) rfl
theorem q578 : (Jvm.Cond.privateMethod ({ cls := "PlugHall$Tokens", name := "letters", desc := "()V" } : Jvm.MethodName)) ∈ lw_tbl := lw_at lw_m3 3 rfl
theorem q579 : (Jvm.Cond.instanceMethod ({ cls := "PlugHall$Tokens", name := "letters", desc := "()V" } : Jvm.MethodName)) ∈ lw_all := lw_g (lw_at lw_m3 4 rfl) rfl
theorem q580 : (Jvm.Cond.code ({ cls := "PlugHall$Tokens", name := "letters", desc := "()V" } : Jvm.MethodName) prog_12_method_6_code (2 : Nat) (Option.none : Option Jvm.ClassFile.FieldType)) ∈ lw_all := lw_g (lw_at lw_m3 5 rfl) rfl
theorem q581 : (Jvm.Cond.classLink "PlugHall$Tokens" (55 : Nat) "java/lang/StringBuilder") ∈ lw_all := lw_g (lw_at lw_m3 6 rfl) rfl
theorem q582 : (Jvm.Cond.instantiable "java/lang/StringBuilder" (4 : Nat)) ∈ lw_all := lw_g (lw_at lw_m3 7 rfl) rfl
theorem q583 : (Jvm.Cond.methodLink "PlugHall$Tokens" (57 : Nat) ({ cls := "java/lang/StringBuilder", name := "<init>", desc := "()V" } : Jvm.MethodName)) ∈ lw_all := lw_g (lw_at lw_m3 8 rfl) rfl
theorem q584 : (Jvm.Cond.instanceMethod ({ cls := "java/lang/StringBuilder", name := "<init>", desc := "()V" } : Jvm.MethodName)) ∈ lw_all := lw_g (lw_at lw_m3 9 rfl) rfl
theorem q585 : (Jvm.Cond.code ({ cls := "java/lang/StringBuilder", name := "<init>", desc := "()V" } : Jvm.MethodName) prog_22_method_1_code (1 : Nat) (Option.none : Option Jvm.ClassFile.FieldType)) ∈ lw_all := lw_g (lw_at lw_m3 10 rfl) rfl
theorem q586 : (Jvm.Cond.methodLink "java/lang/StringBuilder" (1 : Nat) ({ cls := "java/lang/AbstractStringBuilder", name := "<init>", desc := "(I)V" } : Jvm.MethodName)) ∈ lw_all := lw_g (lw_at lw_m3 11 rfl) rfl
theorem q587 : (Jvm.Cond.instanceMethod ({ cls := "java/lang/AbstractStringBuilder", name := "<init>", desc := "(I)V" } : Jvm.MethodName)) ∈ lw_all := lw_g (lw_at lw_m3 12 rfl) rfl
theorem q588 : (Jvm.Cond.code ({ cls := "java/lang/AbstractStringBuilder", name := "<init>", desc := "(I)V" } : Jvm.MethodName) prog_15_method_2_code (2 : Nat) (Option.none : Option Jvm.ClassFile.FieldType)) ∈ lw_all := lw_g (lw_at lw_m3 13 rfl) rfl
theorem q589 : (Jvm.Cond.methodLink "java/lang/AbstractStringBuilder" (3 : Nat) ({ cls := "java/lang/Object", name := "<init>", desc := "()V" } : Jvm.MethodName)) ∈ lw_all := lw_g (lw_at lw_m3 14 rfl) rfl
theorem q590 : (Jvm.Cond.fieldLink "java/lang/AbstractStringBuilder" (18 : Nat) "java/lang/String" "COMPACT_STRINGS" "Z") ∈ lw_all := lw_g (lw_at lw_m3 15 rfl) rfl
theorem q591 : (Jvm.Cond.laysStatic "java/lang/String" "COMPACT_STRINGS" "Z") ∈ lw_tbl := lw_at lw_m3 16 rfl
theorem q592 : (Jvm.Cond.methodLink "java/lang/AbstractStringBuilder" (26 : Nat) ({ cls := "java/lang/StringUTF16", name := "newBytesFor", desc := "(I)[B" } : Jvm.MethodName)) ∈ lw_all := lw_g (lw_at lw_m3 17 rfl) rfl
theorem q593 : (Jvm.Cond.static ({ cls := "java/lang/StringUTF16", name := "newBytesFor", desc := "(I)[B" } : Jvm.MethodName)) ∈ lw_all := lw_g (lw_at lw_m3 18 rfl) rfl
theorem q594 : (Jvm.Cond.code ({ cls := "java/lang/StringUTF16", name := "newBytesFor", desc := "(I)[B" } : Jvm.MethodName) prog_24_method_2_code (1 : Nat) (Option.some (Jvm.ClassFile.FieldType.array Jvm.ClassFile.FieldType.byte))) ∈ lw_all := lw_g (lw_at lw_m3 19 rfl) rfl
theorem q595 : (Jvm.Cond.methodLink "java/lang/StringUTF16" (11 : Nat) ({ cls := "java/lang/StringUTF16", name := "newBytesLength", desc := "(I)I" } : Jvm.MethodName)) ∈ lw_all := lw_g (lw_at lw_m3 20 rfl) rfl
theorem q596 : (Jvm.Cond.static ({ cls := "java/lang/StringUTF16", name := "newBytesLength", desc := "(I)I" } : Jvm.MethodName)) ∈ lw_all := lw_g (lw_at lw_m3 21 rfl) rfl
theorem q597 : (Jvm.Cond.code ({ cls := "java/lang/StringUTF16", name := "newBytesLength", desc := "(I)I" } : Jvm.MethodName) prog_24_method_3_code (1 : Nat) (Option.some Jvm.ClassFile.FieldType.int)) ∈ lw_all := lw_g (lw_at lw_m3 22 rfl) rfl
theorem q598 : (Jvm.Cond.constant "java/lang/StringUTF16" (20 : Nat) (1073741823 : Int32)) ∈ lw_all := lw_g (lw_at lw_m3 23 rfl) rfl
theorem q599 : (Jvm.Cond.fieldLink "java/lang/AbstractStringBuilder" (15 : Nat) "java/lang/AbstractStringBuilder" "value" "[B") ∈ lw_all := lw_g (lw_at lw_m3 24 rfl) rfl
theorem q600 : (Jvm.Cond.fieldLink "java/lang/AbstractStringBuilder" (22 : Nat) "java/lang/AbstractStringBuilder" "coder" "B") ∈ lw_all := lw_g (lw_at lw_m3 25 rfl) rfl
theorem q601 : (Jvm.Cond.fieldLink "java/lang/String" (1048 : Nat) "java/lang/AbstractStringBuilder" "maybeLatin1" "Z") ∈ lw_all := lw_g (lw_at lw_m3 26 rfl) rfl
theorem q602 : (Jvm.Cond.fieldLink "java/lang/AbstractStringBuilder" (79 : Nat) "java/lang/AbstractStringBuilder" "count" "I") ∈ lw_all := lw_g (lw_at lw_m3 27 rfl) rfl
theorem q603 : (Jvm.Cond.lays "java/lang/StringBuilder" "java/lang/AbstractStringBuilder" "value" "[B") ∈ lw_all := lw_g (lw_at lw_m3 28 rfl) rfl
theorem q604 : (Jvm.Cond.soleField "java/lang/AbstractStringBuilder" "value") ∈ lw_all := lw_g (lw_at lw_m3 29 rfl) rfl
theorem q605 : (Jvm.Cond.lays "java/lang/StringBuilder" "java/lang/AbstractStringBuilder" "coder" "B") ∈ lw_all := lw_g (lw_at lw_m3 30 rfl) rfl
theorem q606 : (Jvm.Cond.soleField "java/lang/AbstractStringBuilder" "coder") ∈ lw_all := lw_g (lw_at lw_m3 31 rfl) rfl
theorem q607 : (Jvm.Cond.lays "java/lang/StringBuilder" "java/lang/AbstractStringBuilder" "maybeLatin1" "Z") ∈ lw_all := lw_g (lw_at lw_m3 32 rfl) rfl
theorem q608 : (Jvm.Cond.soleField "java/lang/AbstractStringBuilder" "maybeLatin1") ∈ lw_all := lw_g (lw_at lw_m3 33 rfl) rfl
theorem q609 : (Jvm.Cond.lays "java/lang/StringBuilder" "java/lang/AbstractStringBuilder" "count" "I") ∈ lw_all := lw_g (lw_at lw_m3 34 rfl) rfl
theorem q610 : (Jvm.Cond.soleField "java/lang/AbstractStringBuilder" "count") ∈ lw_all := lw_g (lw_at lw_m3 35 rfl) rfl
theorem q611 : (Jvm.Cond.superclass "java/lang/StringBuilder" "java/lang/AbstractStringBuilder") ∈ lw_all := lw_g (lw_at lw_m3 36 rfl) rfl
theorem q612 : (Jvm.Cond.methodLink "PlugHall$Tokens" (58 : Nat) ({ cls := "java/lang/StringBuilder", name := "append", desc := "(C)Ljava/lang/StringBuilder;" } : Jvm.MethodName)) ∈ lw_all := lw_g (lw_at lw_m3 37 rfl) rfl
theorem q613 : (Jvm.Cond.instanceMethod ({ cls := "java/lang/StringBuilder", name := "append", desc := "(C)Ljava/lang/StringBuilder;" } : Jvm.MethodName)) ∈ lw_all := lw_g (lw_at lw_m3 38 rfl) rfl
theorem q614 : (Jvm.Cond.selects "java/lang/StringBuilder" ({ cls := "java/lang/StringBuilder", name := "append", desc := "(C)Ljava/lang/StringBuilder;" } : Jvm.MethodName) ({ cls := "java/lang/StringBuilder", name := "append", desc := "(C)Ljava/lang/StringBuilder;" } : Jvm.MethodName)) ∈ lw_all := lw_g (lw_at lw_m3 39 rfl) rfl
theorem q615 : (Jvm.Cond.code ({ cls := "java/lang/StringBuilder", name := "append", desc := "(C)Ljava/lang/StringBuilder;" } : Jvm.MethodName) prog_22_method_14_code (2 : Nat) (Option.some (Jvm.ClassFile.FieldType.object "java/lang/StringBuilder"))) ∈ lw_all := lw_g (lw_at lw_m3 40 rfl) rfl
theorem q616 : (Jvm.Cond.methodLink "java/lang/StringBuilder" (50 : Nat) ({ cls := "java/lang/AbstractStringBuilder", name := "append", desc := "(C)Ljava/lang/AbstractStringBuilder;" } : Jvm.MethodName)) ∈ lw_all := lw_g (lw_at lw_m3 41 rfl) rfl
theorem q617 : (Jvm.Cond.instanceMethod ({ cls := "java/lang/AbstractStringBuilder", name := "append", desc := "(C)Ljava/lang/AbstractStringBuilder;" } : Jvm.MethodName)) ∈ lw_all := lw_g (lw_at lw_m3 42 rfl) rfl
theorem q618 : (Jvm.Cond.code ({ cls := "java/lang/AbstractStringBuilder", name := "append", desc := "(C)Ljava/lang/AbstractStringBuilder;" } : Jvm.MethodName) prog_15_method_31_code (2 : Nat) (Option.some (Jvm.ClassFile.FieldType.object "java/lang/AbstractStringBuilder"))) ∈ lw_all := lw_g (lw_at lw_m3 43 rfl) rfl
theorem q619 : (Jvm.Cond.methodLink "java/lang/AbstractStringBuilder" (100 : Nat) ({ cls := "java/lang/AbstractStringBuilder", name := "ensureCapacityInternal", desc := "(I)V" } : Jvm.MethodName)) ∈ lw_all := lw_g (lw_at lw_m3 44 rfl) rfl
theorem q620 : (Jvm.Cond.privateMethod ({ cls := "java/lang/AbstractStringBuilder", name := "ensureCapacityInternal", desc := "(I)V" } : Jvm.MethodName)) ∈ lw_tbl := lw_at lw_m3 45 rfl
theorem q621 : (Jvm.Cond.instanceMethod ({ cls := "java/lang/AbstractStringBuilder", name := "ensureCapacityInternal", desc := "(I)V" } : Jvm.MethodName)) ∈ lw_all := lw_g (lw_at lw_m3 46 rfl) rfl
theorem q622 : (Jvm.Cond.code ({ cls := "java/lang/AbstractStringBuilder", name := "ensureCapacityInternal", desc := "(I)V" } : Jvm.MethodName) prog_15_method_9_code (3 : Nat) (Option.none : Option Jvm.ClassFile.FieldType)) ∈ lw_all := lw_g (lw_at lw_m3 47 rfl) rfl
theorem q623 : (Jvm.Cond.methodLink "java/lang/AbstractStringBuilder" (104 : Nat) ({ cls := "java/lang/AbstractStringBuilder", name := "newCapacity", desc := "(I)I" } : Jvm.MethodName)) ∈ lw_all := lw_g (lw_at lw_m3 48 rfl) rfl
theorem q624 : (Jvm.Cond.privateMethod ({ cls := "java/lang/AbstractStringBuilder", name := "newCapacity", desc := "(I)I" } : Jvm.MethodName)) ∈ lw_tbl := lw_at lw_m3 49 rfl
theorem q625 : (Jvm.Cond.instanceMethod ({ cls := "java/lang/AbstractStringBuilder", name := "newCapacity", desc := "(I)I" } : Jvm.MethodName)) ∈ lw_all := lw_g (lw_at lw_m3 50 rfl) rfl
theorem q626 : (Jvm.Cond.code ({ cls := "java/lang/AbstractStringBuilder", name := "newCapacity", desc := "(I)I" } : Jvm.MethodName) prog_15_method_10_code (6 : Nat) (Option.some Jvm.ClassFile.FieldType.int)) ∈ lw_all := lw_g (lw_at lw_m3 51 rfl) rfl
theorem q627 : (Jvm.Cond.methodLink "java/lang/AbstractStringBuilder" (114 : Nat) ({ cls := "jdk/internal/util/ArraysSupport", name := "newLength", desc := "(III)I" } : Jvm.MethodName)) ∈ lw_all := lw_g (lw_at lw_m3 52 rfl) rfl
theorem q628 : (Jvm.Cond.static ({ cls := "jdk/internal/util/ArraysSupport", name := "newLength", desc := "(III)I" } : Jvm.MethodName)) ∈ lw_all := lw_g (lw_at lw_m3 53 rfl) rfl
theorem q629 : (Jvm.Cond.code ({ cls := "jdk/internal/util/ArraysSupport", name := "newLength", desc := "(III)I" } : Jvm.MethodName) prog_29_method_27_code (4 : Nat) (Option.some Jvm.ClassFile.FieldType.int)) ∈ lw_all := lw_g (lw_at lw_m3 54 rfl) rfl
theorem q630 : (Jvm.Cond.methodLink "jdk/internal/util/ArraysSupport" (194 : Nat) ({ cls := "java/lang/Math", name := "max", desc := "(II)I" } : Jvm.MethodName)) ∈ lw_all := lw_g (lw_at lw_m3 55 rfl) rfl
theorem q631 : (Jvm.Cond.static ({ cls := "java/lang/Math", name := "max", desc := "(II)I" } : Jvm.MethodName)) ∈ lw_all := lw_g (lw_at lw_m3 56 rfl) rfl
theorem q632 : (Jvm.Cond.code ({ cls := "java/lang/Math", name := "max", desc := "(II)I" } : Jvm.MethodName) prog_19_method_65_code (2 : Nat) (Option.some Jvm.ClassFile.FieldType.int)) ∈ lw_all := lw_g (lw_at lw_m3 57 rfl) rfl
theorem q633 : (Jvm.Cond.constant "jdk/internal/util/ArraysSupport" (200 : Nat) (2147483639 : Int32)) ∈ lw_all := lw_g (lw_at lw_m3 58 rfl) rfl
theorem q634 : (Jvm.Cond.methodLink "jdk/internal/util/ArraysSupport" (201 : Nat) ({ cls := "jdk/internal/util/ArraysSupport", name := "hugeLength", desc := "(II)I" } : Jvm.MethodName)) ∈ lw_all := lw_g (lw_at lw_m3 59 rfl) rfl
theorem q635 : (Jvm.Cond.static ({ cls := "jdk/internal/util/ArraysSupport", name := "hugeLength", desc := "(II)I" } : Jvm.MethodName)) ∈ lw_all := lw_g (lw_at lw_m3 60 rfl) rfl
theorem q636 : (Jvm.Cond.code ({ cls := "jdk/internal/util/ArraysSupport", name := "hugeLength", desc := "(II)I" } : Jvm.MethodName) prog_29_method_28_code (3 : Nat) (Option.some Jvm.ClassFile.FieldType.int)) ∈ lw_all := lw_g (lw_at lw_m3 61 rfl) rfl
theorem q637 : (Jvm.Cond.constant "java/lang/AbstractStringBuilder" (39 : Nat) (2147483647 : Int32)) ∈ lw_all := lw_g (lw_at lw_m3 62 rfl) rfl
theorem q638 : (Jvm.Cond.methodLink "java/lang/AbstractStringBuilder" (108 : Nat) ({ cls := "java/util/Arrays", name := "copyOf", desc := "([BI)[B" } : Jvm.MethodName)) ∈ lw_all := lw_g (lw_at lw_m3 63 rfl) rfl
theorem q639 : (Jvm.Cond.methodLink "java/lang/AbstractStringBuilder" (83 : Nat) ({ cls := "java/lang/AbstractStringBuilder", name := "isLatin1", desc := "()Z" } : Jvm.MethodName)) ∈ lw_all := lw_g (lw_at lw_m3 64 rfl) rfl
theorem q640 : (Jvm.Cond.instanceMethod ({ cls := "java/lang/AbstractStringBuilder", name := "isLatin1", desc := "()Z" } : Jvm.MethodName)) ∈ lw_all := lw_g (lw_at lw_m3 65 rfl) rfl
theorem q641 : (Jvm.Cond.sameMethod "java/lang/AbstractStringBuilder" "java/lang/AbstractStringBuilder" "isLatin1" "()Z") ∈ lw_all := lw_g (lw_at lw_m3 66 rfl) rfl
theorem q642 : (Jvm.Cond.selects "java/lang/StringBuilder" ({ cls := "java/lang/AbstractStringBuilder", name := "isLatin1", desc := "()Z" } : Jvm.MethodName) ({ cls := "java/lang/AbstractStringBuilder", name := "isLatin1", desc := "()Z" } : Jvm.MethodName)) ∈ lw_all := lw_g (lw_at lw_m3 67 rfl) rfl
theorem q643 : (Jvm.Cond.code ({ cls := "java/lang/AbstractStringBuilder", name := "isLatin1", desc := "()Z" } : Jvm.MethodName) prog_15_method_68_code (1 : Nat) (Option.some Jvm.ClassFile.FieldType.boolean)) ∈ lw_all := lw_g (lw_at lw_m3 68 rfl) rfl
theorem q644 : (Jvm.Cond.methodLink "java/lang/AbstractStringBuilder" (191 : Nat) ({ cls := "java/lang/StringLatin1", name := "canEncode", desc := "(C)Z" } : Jvm.MethodName)) ∈ lw_all := lw_g (lw_at lw_m3 69 rfl) rfl
theorem q645 : (Jvm.Cond.static ({ cls := "java/lang/StringLatin1", name := "canEncode", desc := "(C)Z" } : Jvm.MethodName)) ∈ lw_all := lw_g (lw_at lw_m3 70 rfl) rfl
theorem q646 : (Jvm.Cond.code ({ cls := "java/lang/StringLatin1", name := "canEncode", desc := "(C)Z" } : Jvm.MethodName) prog_23_method_3_code (1 : Nat) (Option.some Jvm.ClassFile.FieldType.boolean)) ∈ lw_all := lw_g (lw_at lw_m3 71 rfl) rfl
theorem q647 : (Jvm.Cond.methodLink "java/lang/AbstractStringBuilder" (195 : Nat) ({ cls := "java/lang/AbstractStringBuilder", name := "inflate", desc := "()V" } : Jvm.MethodName)) ∈ lw_all := lw_g (lw_at lw_m3 72 rfl) rfl
theorem q648 : (Jvm.Cond.privateMethod ({ cls := "java/lang/AbstractStringBuilder", name := "inflate", desc := "()V" } : Jvm.MethodName)) ∈ lw_tbl := lw_at lw_m3 73 rfl
theorem q649 : (Jvm.Cond.instanceMethod ({ cls := "java/lang/AbstractStringBuilder", name := "inflate", desc := "()V" } : Jvm.MethodName)) ∈ lw_all := lw_g (lw_at lw_m3 74 rfl) rfl
theorem q650 : (Jvm.Cond.code ({ cls := "java/lang/AbstractStringBuilder", name := "inflate", desc := "()V" } : Jvm.MethodName) prog_15_method_11_code (2 : Nat) (Option.none : Option Jvm.ClassFile.FieldType)) ∈ lw_all := lw_g (lw_at lw_m3 75 rfl) rfl
theorem q651 : (Jvm.Cond.methodLink "java/lang/AbstractStringBuilder" (125 : Nat) ({ cls := "java/lang/StringLatin1", name := "inflate", desc := "([BI[BII)V" } : Jvm.MethodName)) ∈ lw_all := lw_g (lw_at lw_m3 76 rfl) rfl
theorem q652 : (Jvm.Cond.static ({ cls := "java/lang/StringLatin1", name := "inflate", desc := "([BI[BII)V" } : Jvm.MethodName)) ∈ lw_all := lw_g (lw_at lw_m3 77 rfl) rfl
theorem q653 : (Jvm.Cond.code ({ cls := "java/lang/StringLatin1", name := "inflate", desc := "([BI[BII)V" } : Jvm.MethodName) prog_23_method_50_code (5 : Nat) (Option.none : Option Jvm.ClassFile.FieldType)) ∈ lw_all := lw_g (lw_at lw_m3 78 rfl) rfl
theorem q654 : (Jvm.Cond.methodLink "java/lang/StringLatin1" (240 : Nat) ({ cls := "java/lang/StringUTF16", name := "inflate", desc := "([BI[BII)V" } : Jvm.MethodName)) ∈ lw_all := lw_g (lw_at lw_m3 79 rfl) rfl
theorem q655 : (Jvm.Cond.static ({ cls := "java/lang/StringUTF16", name := "inflate", desc := "([BI[BII)V" } : Jvm.MethodName)) ∈ lw_all := lw_g (lw_at lw_m3 80 rfl) rfl
theorem q656 : (Jvm.Cond.code ({ cls := "java/lang/StringUTF16", name := "inflate", desc := "([BI[BII)V" } : Jvm.MethodName) prog_24_method_86_code (6 : Nat) (Option.none : Option Jvm.ClassFile.FieldType)) ∈ lw_all := lw_g (lw_at lw_m3 81 rfl) rfl
theorem q657 : (Jvm.Cond.methodLink "java/lang/StringUTF16" (173 : Nat) ({ cls := "java/lang/StringUTF16", name := "checkBoundsOffCount", desc := "(II[B)V" } : Jvm.MethodName)) ∈ lw_all := lw_g (lw_at lw_m3 82 rfl) rfl
theorem q658 : (Jvm.Cond.static ({ cls := "java/lang/StringUTF16", name := "checkBoundsOffCount", desc := "(II[B)V" } : Jvm.MethodName)) ∈ lw_all := lw_g (lw_at lw_m3 83 rfl) rfl
theorem q659 : (Jvm.Cond.code ({ cls := "java/lang/StringUTF16", name := "checkBoundsOffCount", desc := "(II[B)V" } : Jvm.MethodName) prog_24_method_94_code (3 : Nat) (Option.none : Option Jvm.ClassFile.FieldType)) ∈ lw_all := lw_g (lw_at lw_m3 84 rfl) rfl
theorem q660 : (Jvm.Cond.methodLink "java/lang/StringUTF16" (48 : Nat) ({ cls := "java/lang/StringUTF16", name := "length", desc := "([B)I" } : Jvm.MethodName)) ∈ lw_all := lw_g (lw_at lw_m3 85 rfl) rfl
theorem q661 : (Jvm.Cond.static ({ cls := "java/lang/StringUTF16", name := "length", desc := "([B)I" } : Jvm.MethodName)) ∈ lw_all := lw_g (lw_at lw_m3 86 rfl) rfl
theorem q662 : (Jvm.Cond.code ({ cls := "java/lang/StringUTF16", name := "length", desc := "([B)I" } : Jvm.MethodName) prog_24_method_6_code (1 : Nat) (Option.some Jvm.ClassFile.FieldType.int)) ∈ lw_all := lw_g (lw_at lw_m3 87 rfl) rfl
theorem q663 : (Jvm.Cond.methodLink "java/lang/StringUTF16" (419 : Nat) ({ cls := "java/lang/String", name := "checkBoundsOffCount", desc := "(III)I" } : Jvm.MethodName)) ∈ lw_all := lw_g (lw_at lw_m3 88 rfl) rfl
theorem q664 : (Jvm.Cond.static ({ cls := "java/lang/String", name := "checkBoundsOffCount", desc := "(III)I" } : Jvm.MethodName)) ∈ lw_all := lw_g (lw_at lw_m3 89 rfl) rfl
theorem q665 : (Jvm.Cond.code ({ cls := "java/lang/String", name := "checkBoundsOffCount", desc := "(III)I" } : Jvm.MethodName) prog_21_method_157_code (3 : Nat) (Option.some Jvm.ClassFile.FieldType.int)) ∈ lw_all := lw_g (lw_at lw_m3 90 rfl) rfl
theorem q666 : (Jvm.Cond.fieldLink "java/lang/String" (1053 : Nat) "jdk/internal/util/Preconditions" "SIOOBE_FORMATTER" "Ljava/util/function/BiFunction;") ∈ lw_all := lw_g (lw_at lw_m3 91 rfl) rfl
theorem q667 : (Jvm.Cond.laysStatic "jdk/internal/util/Preconditions" "SIOOBE_FORMATTER" "Ljava/util/function/BiFunction;") ∈ lw_tbl := lw_at lw_m3 92 rfl
theorem q668 : (Jvm.Cond.methodLink "java/lang/String" (1065 : Nat) ({ cls := "jdk/internal/util/Preconditions", name := "checkFromIndexSize", desc := "(IIILjava/util/function/BiFunction;)I" } : Jvm.MethodName)) ∈ lw_all := lw_g (lw_at lw_m3 93 rfl) rfl
theorem q669 : (Jvm.Cond.static ({ cls := "jdk/internal/util/Preconditions", name := "checkFromIndexSize", desc := "(IIILjava/util/function/BiFunction;)I" } : Jvm.MethodName)) ∈ lw_all := lw_g (lw_at lw_m3 94 rfl) rfl
theorem q670 : (Jvm.Cond.code ({ cls := "jdk/internal/util/Preconditions", name := "checkFromIndexSize", desc := "(IIILjava/util/function/BiFunction;)I" } : Jvm.MethodName) prog_30_method_13_code (4 : Nat) (Option.some Jvm.ClassFile.FieldType.int)) ∈ lw_all := lw_g (lw_at lw_m3 95 rfl) rfl
theorem q671 : (Jvm.Cond.methodLink "java/lang/StringUTF16" (111 : Nat) ({ cls := "java/lang/StringUTF16", name := "putChar", desc := "([BII)V" } : Jvm.MethodName)) ∈ lw_all := lw_g (lw_at lw_m3 96 rfl) rfl
theorem q672 : (Jvm.Cond.static ({ cls := "java/lang/StringUTF16", name := "putChar", desc := "([BII)V" } : Jvm.MethodName)) ∈ lw_all := lw_g (lw_at lw_m3 97 rfl) rfl
theorem q673 : (Jvm.Cond.code ({ cls := "java/lang/StringUTF16", name := "putChar", desc := "([BII)V" } : Jvm.MethodName) prog_24_method_4_code (3 : Nat) (Option.none : Option Jvm.ClassFile.FieldType)) ∈ lw_all := lw_g (lw_at lw_m3 98 rfl) rfl
theorem q674 : (Jvm.Cond.fieldLink "java/lang/StringUTF16" (44 : Nat) "java/lang/StringUTF16" "$assertionsDisabled" "Z") ∈ lw_all := lw_g (lw_at lw_m3 99 rfl) rfl
theorem q675 : (Jvm.Cond.laysStatic "java/lang/StringUTF16" "$assertionsDisabled" "Z") ∈ lw_tbl := lw_at lw_m3 100 rfl
theorem q676 : (Jvm.Cond.fieldLink "java/lang/StringUTF16" (59 : Nat) "java/lang/StringUTF16" "HI_BYTE_SHIFT" "I") ∈ lw_all := lw_g (lw_at lw_m3 101 rfl) rfl
theorem q677 : (Jvm.Cond.laysStatic "java/lang/StringUTF16" "HI_BYTE_SHIFT" "I") ∈ lw_tbl := lw_at lw_m3 102 rfl
theorem q678 : (Jvm.Cond.fieldLink "java/lang/StringUTF16" (63 : Nat) "java/lang/StringUTF16" "LO_BYTE_SHIFT" "I") ∈ lw_all := lw_g (lw_at lw_m3 103 rfl) rfl
theorem q679 : (Jvm.Cond.laysStatic "java/lang/StringUTF16" "LO_BYTE_SHIFT" "I") ∈ lw_tbl := lw_at lw_m3 104 rfl
theorem q680 : (Jvm.Cond.methodLink "java/lang/AbstractStringBuilder" (197 : Nat) ({ cls := "java/lang/StringUTF16", name := "putCharSB", desc := "([BII)V" } : Jvm.MethodName)) ∈ lw_all := lw_g (lw_at lw_m3 105 rfl) rfl
theorem q681 : (Jvm.Cond.static ({ cls := "java/lang/StringUTF16", name := "putCharSB", desc := "([BII)V" } : Jvm.MethodName)) ∈ lw_all := lw_g (lw_at lw_m3 106 rfl) rfl
theorem q682 : (Jvm.Cond.code ({ cls := "java/lang/StringUTF16", name := "putCharSB", desc := "([BII)V" } : Jvm.MethodName) prog_24_method_71_code (3 : Nat) (Option.none : Option Jvm.ClassFile.FieldType)) ∈ lw_all := lw_g (lw_at lw_m3 107 rfl) rfl
theorem q683 : (Jvm.Cond.methodLink "java/lang/StringUTF16" (67 : Nat) ({ cls := "java/lang/StringUTF16", name := "checkIndex", desc := "(I[B)V" } : Jvm.MethodName)) ∈ lw_all := lw_g (lw_at lw_m3 108 rfl) rfl
theorem q684 : (Jvm.Cond.static ({ cls := "java/lang/StringUTF16", name := "checkIndex", desc := "(I[B)V" } : Jvm.MethodName)) ∈ lw_all := lw_g (lw_at lw_m3 109 rfl) rfl
theorem q685 : (Jvm.Cond.code ({ cls := "java/lang/StringUTF16", name := "checkIndex", desc := "(I[B)V" } : Jvm.MethodName) prog_24_method_91_code (2 : Nat) (Option.none : Option Jvm.ClassFile.FieldType)) ∈ lw_all := lw_g (lw_at lw_m3 110 rfl) rfl
theorem q686 : (Jvm.Cond.methodLink "java/lang/StringUTF16" (414 : Nat) ({ cls := "java/lang/String", name := "checkIndex", desc := "(II)V" } : Jvm.MethodName)) ∈ lw_all := lw_g (lw_at lw_m3 111 rfl) rfl
theorem q687 : (Jvm.Cond.static ({ cls := "java/lang/String", name := "checkIndex", desc := "(II)V" } : Jvm.MethodName)) ∈ lw_all := lw_g (lw_at lw_m3 112 rfl) rfl
theorem q688 : (Jvm.Cond.code ({ cls := "java/lang/String", name := "checkIndex", desc := "(II)V" } : Jvm.MethodName) prog_21_method_155_code (2 : Nat) (Option.none : Option Jvm.ClassFile.FieldType)) ∈ lw_all := lw_g (lw_at lw_m3 113 rfl) rfl
theorem q689 : (Jvm.Cond.methodLink "java/lang/String" (1059 : Nat) ({ cls := "jdk/internal/util/Preconditions", name := "checkIndex", desc := "(IILjava/util/function/BiFunction;)I" } : Jvm.MethodName)) ∈ lw_all := lw_g (lw_at lw_m3 114 rfl) rfl
theorem q690 : (Jvm.Cond.static ({ cls := "jdk/internal/util/Preconditions", name := "checkIndex", desc := "(IILjava/util/function/BiFunction;)I" } : Jvm.MethodName)) ∈ lw_all := lw_g (lw_at lw_m3 115 rfl) rfl
theorem q691 : (Jvm.Cond.code ({ cls := "jdk/internal/util/Preconditions", name := "checkIndex", desc := "(IILjava/util/function/BiFunction;)I" } : Jvm.MethodName) prog_30_method_11_code (3 : Nat) (Option.some Jvm.ClassFile.FieldType.int)) ∈ lw_all := lw_g (lw_at lw_m3 116 rfl) rfl
theorem q692 : (Jvm.Cond.methodLink "PlugHall$Tokens" (62 : Nat) ({ cls := "java/lang/StringBuilder", name := "toString", desc := "()Ljava/lang/String;" } : Jvm.MethodName)) ∈ lw_all := lw_g (lw_at lw_m3 117 rfl) rfl
theorem q693 : (Jvm.Cond.instanceMethod ({ cls := "java/lang/StringBuilder", name := "toString", desc := "()Ljava/lang/String;" } : Jvm.MethodName)) ∈ lw_all := lw_g (lw_at lw_m3 118 rfl) rfl
theorem q694 : (Jvm.Cond.selects "java/lang/StringBuilder" ({ cls := "java/lang/StringBuilder", name := "toString", desc := "()Ljava/lang/String;" } : Jvm.MethodName) ({ cls := "java/lang/StringBuilder", name := "toString", desc := "()Ljava/lang/String;" } : Jvm.MethodName)) ∈ lw_all := lw_g (lw_at lw_m3 119 rfl) rfl
theorem q695 : (Jvm.Cond.code ({ cls := "java/lang/StringBuilder", name := "toString", desc := "()Ljava/lang/String;" } : Jvm.MethodName) prog_22_method_42_code (1 : Nat) (Option.some (Jvm.ClassFile.FieldType.object "java/lang/String"))) ∈ lw_all := lw_g (lw_at lw_m3 120 rfl) rfl
theorem q696 : (Jvm.Cond.classLink "java/lang/StringBuilder" (18 : Nat) "java/lang/String") ∈ lw_all := lw_g (lw_at lw_m3 121 rfl) rfl
theorem q697 : (Jvm.Cond.instantiable "java/lang/String" (4 : Nat)) ∈ lw_all := lw_g (lw_at lw_m3 122 rfl) rfl
theorem q698 : (Jvm.Cond.methodLink "java/lang/StringBuilder" (137 : Nat) ({ cls := "java/lang/String", name := "<init>", desc := "(Ljava/lang/StringBuilder;)V" } : Jvm.MethodName)) ∈ lw_all := lw_g (lw_at lw_m3 123 rfl) rfl
theorem q699 : (Jvm.Cond.instanceMethod ({ cls := "java/lang/String", name := "<init>", desc := "(Ljava/lang/StringBuilder;)V" } : Jvm.MethodName)) ∈ lw_all := lw_g (lw_at lw_m3 124 rfl) rfl
theorem q700 : (Jvm.Cond.code ({ cls := "java/lang/String", name := "<init>", desc := "(Ljava/lang/StringBuilder;)V" } : Jvm.MethodName) prog_21_method_53_code (2 : Nat) (Option.none : Option Jvm.ClassFile.FieldType)) ∈ lw_all := lw_g (lw_at lw_m3 125 rfl) rfl
theorem q701 : (Jvm.Cond.methodLink "java/lang/String" (489 : Nat) ({ cls := "java/lang/String", name := "<init>", desc := "(Ljava/lang/AbstractStringBuilder;Ljava/lang/Void;)V" } : Jvm.MethodName)) ∈ lw_all := lw_g (lw_at lw_m3 126 rfl) rfl
theorem q702 : (Jvm.Cond.instanceMethod ({ cls := "java/lang/String", name := "<init>", desc := "(Ljava/lang/AbstractStringBuilder;Ljava/lang/Void;)V" } : Jvm.MethodName)) ∈ lw_all := lw_g (lw_at lw_m3 127 rfl) rfl
theorem q703 : (Jvm.Cond.code ({ cls := "java/lang/String", name := "<init>", desc := "(Ljava/lang/AbstractStringBuilder;Ljava/lang/Void;)V" } : Jvm.MethodName) prog_21_method_150_code (5 : Nat) (Option.none : Option Jvm.ClassFile.FieldType)) ∈ lw_all := lw_g (lw_at lw_m3 128 rfl) rfl
theorem q704 : (Jvm.Cond.methodLink "java/lang/String" (1 : Nat) ({ cls := "java/lang/Object", name := "<init>", desc := "()V" } : Jvm.MethodName)) ∈ lw_all := lw_g (lw_at lw_m3 129 rfl) rfl
theorem q705 : (Jvm.Cond.methodLink "java/lang/String" (552 : Nat) ({ cls := "java/lang/AbstractStringBuilder", name := "getValue", desc := "()[B" } : Jvm.MethodName)) ∈ lw_all := lw_g (lw_at lw_m3 130 rfl) rfl
theorem q706 : (Jvm.Cond.instanceMethod ({ cls := "java/lang/AbstractStringBuilder", name := "getValue", desc := "()[B" } : Jvm.MethodName)) ∈ lw_all := lw_g (lw_at lw_m3 131 rfl) rfl
theorem q707 : (Jvm.Cond.sameMethod "java/lang/AbstractStringBuilder" "java/lang/AbstractStringBuilder" "getValue" "()[B") ∈ lw_all := lw_g (lw_at lw_m3 132 rfl) rfl
theorem q708 : (Jvm.Cond.selects "java/lang/StringBuilder" ({ cls := "java/lang/AbstractStringBuilder", name := "getValue", desc := "()[B" } : Jvm.MethodName) ({ cls := "java/lang/AbstractStringBuilder", name := "getValue", desc := "()[B" } : Jvm.MethodName)) ∈ lw_all := lw_g (lw_at lw_m3 133 rfl) rfl
theorem q709 : (Jvm.Cond.code ({ cls := "java/lang/AbstractStringBuilder", name := "getValue", desc := "()[B" } : Jvm.MethodName) prog_15_method_64_code (1 : Nat) (Option.some (Jvm.ClassFile.FieldType.array Jvm.ClassFile.FieldType.byte))) ∈ lw_all := lw_g (lw_at lw_m3 134 rfl) rfl
theorem q710 : (Jvm.Cond.methodLink "java/lang/String" (549 : Nat) ({ cls := "java/lang/AbstractStringBuilder", name := "length", desc := "()I" } : Jvm.MethodName)) ∈ lw_all := lw_g (lw_at lw_m3 135 rfl) rfl
theorem q711 : (Jvm.Cond.instanceMethod ({ cls := "java/lang/AbstractStringBuilder", name := "length", desc := "()I" } : Jvm.MethodName)) ∈ lw_all := lw_g (lw_at lw_m3 136 rfl) rfl
theorem q712 : (Jvm.Cond.sameMethod "java/lang/AbstractStringBuilder" "java/lang/AbstractStringBuilder" "length" "()I") ∈ lw_all := lw_g (lw_at lw_m3 137 rfl) rfl
theorem q713 : (Jvm.Cond.selects "java/lang/StringBuilder" ({ cls := "java/lang/AbstractStringBuilder", name := "length", desc := "()I" } : Jvm.MethodName) ({ cls := "java/lang/StringBuilder", name := "length", desc := "()I" } : Jvm.MethodName)) ∈ lw_all := lw_g (lw_at lw_m3 138 rfl) rfl
theorem q714 : (Jvm.Cond.instanceMethod ({ cls := "java/lang/StringBuilder", name := "length", desc := "()I" } : Jvm.MethodName)) ∈ lw_all := lw_g (lw_at lw_m3 139 rfl) rfl
theorem q715 : (Jvm.Cond.code ({ cls := "java/lang/StringBuilder", name := "length", desc := "()I" } : Jvm.MethodName) prog_22_method_93_code (1 : Nat) (Option.some Jvm.ClassFile.FieldType.int)) ∈ lw_all := lw_g (lw_at lw_m3 140 rfl) rfl
theorem q716 : (Jvm.Cond.methodLink "java/lang/StringBuilder" (343 : Nat) ({ cls := "java/lang/AbstractStringBuilder", name := "length", desc := "()I" } : Jvm.MethodName)) ∈ lw_all := lw_g (lw_at lw_m3 141 rfl) rfl
theorem q717 : (Jvm.Cond.code ({ cls := "java/lang/AbstractStringBuilder", name := "length", desc := "()I" } : Jvm.MethodName) prog_15_method_6_code (1 : Nat) (Option.some Jvm.ClassFile.FieldType.int)) ∈ lw_all := lw_g (lw_at lw_m3 142 rfl) rfl
theorem q718 : (Jvm.Cond.methodLink "java/lang/String" (1047 : Nat) ({ cls := "java/lang/AbstractStringBuilder", name := "isLatin1", desc := "()Z" } : Jvm.MethodName)) ∈ lw_all := lw_g (lw_at lw_m3 143 rfl) rfl
theorem q719 : (Jvm.Cond.methodLink "java/lang/String" (54 : Nat) ({ cls := "java/util/Arrays", name := "copyOfRange", desc := "([BII)[B" } : Jvm.MethodName)) ∈ lw_all := lw_g (lw_at lw_m3 144 rfl) rfl
theorem q720 : (Jvm.Cond.static ({ cls := "java/util/Arrays", name := "copyOfRange", desc := "([BII)[B" } : Jvm.MethodName)) ∈ lw_all := lw_g (lw_at lw_m3 145 rfl) rfl
theorem q721 : (Jvm.Cond.code ({ cls := "java/util/Arrays", name := "copyOfRange", desc := "([BII)[B" } : Jvm.MethodName) prog_27_method_132_code (3 : Nat) (Option.some (Jvm.ClassFile.FieldType.array Jvm.ClassFile.FieldType.byte))) ∈ lw_all := lw_g (lw_at lw_m3 146 rfl) rfl
theorem q722 : (Jvm.Cond.methodLink "java/util/Arrays" (339 : Nat) ({ cls := "java/util/Arrays", name := "copyOfRangeByte", desc := "([BII)[B" } : Jvm.MethodName)) ∈ lw_all := lw_g (lw_at lw_m3 147 rfl) rfl
theorem q723 : (Jvm.Cond.static ({ cls := "java/util/Arrays", name := "copyOfRangeByte", desc := "([BII)[B" } : Jvm.MethodName)) ∈ lw_all := lw_g (lw_at lw_m3 148 rfl) rfl
theorem q724 : (Jvm.Cond.code ({ cls := "java/util/Arrays", name := "copyOfRangeByte", desc := "([BII)[B" } : Jvm.MethodName) prog_27_method_133_code (5 : Nat) (Option.some (Jvm.ClassFile.FieldType.array Jvm.ClassFile.FieldType.byte))) ∈ lw_all := lw_g (lw_at lw_m3 149 rfl) rfl
theorem q725 : (Jvm.Cond.methodLink "java/util/Arrays" (343 : Nat) ({ cls := "java/util/Arrays", name := "checkLength", desc := "(II)V" } : Jvm.MethodName)) ∈ lw_all := lw_g (lw_at lw_m3 150 rfl) rfl
theorem q726 : (Jvm.Cond.static ({ cls := "java/util/Arrays", name := "checkLength", desc := "(II)V" } : Jvm.MethodName)) ∈ lw_all := lw_g (lw_at lw_m3 151 rfl) rfl
theorem q727 : (Jvm.Cond.code ({ cls := "java/util/Arrays", name := "checkLength", desc := "(II)V" } : Jvm.MethodName) prog_27_method_131_code (2 : Nat) (Option.none : Option Jvm.ClassFile.FieldType)) ∈ lw_all := lw_g (lw_at lw_m3 152 rfl) rfl
theorem q728 : (Jvm.Cond.fieldLink "java/lang/String" (38 : Nat) "java/lang/String" "COMPACT_STRINGS" "Z") ∈ lw_all := lw_g (lw_at lw_m3 153 rfl) rfl
theorem q729 : (Jvm.Cond.methodLink "java/lang/String" (1051 : Nat) ({ cls := "java/lang/StringUTF16", name := "compress", desc := "([BII)[B" } : Jvm.MethodName)) ∈ lw_all := lw_g (lw_at lw_m3 154 rfl) rfl
theorem q730 : (Jvm.Cond.static ({ cls := "java/lang/StringUTF16", name := "compress", desc := "([BII)[B" } : Jvm.MethodName)) ∈ lw_all := lw_g (lw_at lw_m3 155 rfl) rfl
theorem q731 : (Jvm.Cond.code ({ cls := "java/lang/StringUTF16", name := "compress", desc := "([BII)[B" } : Jvm.MethodName) prog_24_method_17_code (6 : Nat) (Option.some (Jvm.ClassFile.FieldType.array Jvm.ClassFile.FieldType.byte))) ∈ lw_all := lw_g (lw_at lw_m3 156 rfl) rfl
theorem q732 : (Jvm.Cond.methodLink "java/lang/StringUTF16" (123 : Nat) ({ cls := "java/lang/StringUTF16", name := "compress", desc := "([BI[BII)I" } : Jvm.MethodName)) ∈ lw_all := lw_g (lw_at lw_m3 157 rfl) rfl
theorem q733 : (Jvm.Cond.static ({ cls := "java/lang/StringUTF16", name := "compress", desc := "([BI[BII)I" } : Jvm.MethodName)) ∈ lw_all := lw_g (lw_at lw_m3 158 rfl) rfl
theorem q734 : (Jvm.Cond.code ({ cls := "java/lang/StringUTF16", name := "compress", desc := "([BI[BII)I" } : Jvm.MethodName) prog_24_method_22_code (7 : Nat) (Option.some Jvm.ClassFile.FieldType.int)) ∈ lw_all := lw_g (lw_at lw_m3 159 rfl) rfl
theorem q735 : (Jvm.Cond.methodLink "java/lang/StringUTF16" (71 : Nat) ({ cls := "java/lang/StringUTF16", name := "getChar", desc := "([BI)C" } : Jvm.MethodName)) ∈ lw_all := lw_g (lw_at lw_m3 160 rfl) rfl
theorem q736 : (Jvm.Cond.static ({ cls := "java/lang/StringUTF16", name := "getChar", desc := "([BI)C" } : Jvm.MethodName)) ∈ lw_all := lw_g (lw_at lw_m3 161 rfl) rfl
theorem q737 : (Jvm.Cond.code ({ cls := "java/lang/StringUTF16", name := "getChar", desc := "([BI)C" } : Jvm.MethodName) prog_24_method_5_code (2 : Nat) (Option.some Jvm.ClassFile.FieldType.char)) ∈ lw_all := lw_g (lw_at lw_m3 162 rfl) rfl
theorem q738 : (Jvm.Cond.methodLink "java/lang/StringUTF16" (126 : Nat) ({ cls := "java/util/Arrays", name := "copyOfRange", desc := "([BII)[B" } : Jvm.MethodName)) ∈ lw_all := lw_g (lw_at lw_m3 163 rfl) rfl
theorem q739 : (Jvm.Cond.methodLink "java/lang/String" (47 : Nat) ({ cls := "java/lang/StringUTF16", name := "coderFromArrayLen", desc := "([BI)B" } : Jvm.MethodName)) ∈ lw_all := lw_g (lw_at lw_m3 164 rfl) rfl
theorem q740 : (Jvm.Cond.static ({ cls := "java/lang/StringUTF16", name := "coderFromArrayLen", desc := "([BI)B" } : Jvm.MethodName)) ∈ lw_all := lw_g (lw_at lw_m3 165 rfl) rfl
theorem q741 : (Jvm.Cond.code ({ cls := "java/lang/StringUTF16", name := "coderFromArrayLen", desc := "([BI)B" } : Jvm.MethodName) prog_24_method_15_code (2 : Nat) (Option.some Jvm.ClassFile.FieldType.byte)) ∈ lw_all := lw_g (lw_at lw_m3 166 rfl) rfl
theorem q742 : (Jvm.Cond.fieldLink "java/lang/String" (9 : Nat) "java/lang/String" "value" "[B") ∈ lw_all := lw_g (lw_at lw_m3 167 rfl) rfl
theorem q743 : (Jvm.Cond.fieldLink "java/lang/String" (15 : Nat) "java/lang/String" "coder" "B") ∈ lw_all := lw_g (lw_at lw_m3 168 rfl) rfl
theorem q744 : (Jvm.Cond.laysFinal "java/lang/String" "java/lang/String" "value" "[B") ∈ lw_all := lw_g (lw_at lw_m3 169 rfl) rfl
theorem q745 : (Jvm.Cond.soleField "java/lang/String" "value") ∈ lw_all := lw_g (lw_at lw_m3 170 rfl) rfl
theorem q746 : (Jvm.Cond.laysFinal "java/lang/String" "java/lang/String" "coder" "B") ∈ lw_all := lw_g (lw_at lw_m3 171 rfl) rfl
theorem q747 : (Jvm.Cond.soleField "java/lang/String" "coder") ∈ lw_all := lw_g (lw_at lw_m3 172 rfl) rfl
theorem q748 : (Jvm.Cond.lays "java/lang/String" "java/lang/String" "hash" "I") ∈ lw_all := lw_g (lw_at lw_m3 173 rfl) rfl
theorem q749 : (Jvm.Cond.soleField "java/lang/String" "hash") ∈ lw_all := lw_g (lw_at lw_m3 174 rfl) rfl
theorem q750 : (Jvm.Cond.lays "java/lang/String" "java/lang/String" "hashIsZero" "Z") ∈ lw_all := lw_g (lw_at lw_m3 175 rfl) rfl
theorem q751 : (Jvm.Cond.soleField "java/lang/String" "hashIsZero") ∈ lw_all := lw_g (lw_at lw_m3 176 rfl) rfl
theorem q752 : (Jvm.Cond.superclass "java/lang/String" "java/lang/Object") ∈ lw_all := lw_g (lw_at lw_m3 177 rfl) rfl
theorem q753 : (Jvm.Cond.methodLink "PlugHall$Tokens" (46 : Nat) ({ cls := "PlugHall$Tokens", name := "isNumeral", desc := "(I)Z" } : Jvm.MethodName)) ∈ lw_all := lw_g (lw_at lw_m3 178 rfl) rfl
theorem q754 : (Jvm.Cond.static ({ cls := "PlugHall$Tokens", name := "isNumeral", desc := "(I)Z" } : Jvm.MethodName)) ∈ lw_all := lw_g (lw_at lw_m3 179 rfl) rfl
theorem q755 : (Jvm.Cond.code ({ cls := "PlugHall$Tokens", name := "isNumeral", desc := "(I)Z" } : Jvm.MethodName) prog_12_method_3_code (1 : Nat) (Option.some Jvm.ClassFile.FieldType.boolean)) ∈ lw_all := lw_g (lw_at lw_m3 180 rfl) rfl
theorem q756 : (Jvm.Cond.methodLink "PlugHall$Tokens" (49 : Nat) ({ cls := "PlugHall$Tokens", name := "digits", desc := "()V" } : Jvm.MethodName)) ∈ lw_all := lw_g (lw_at lw_m3 181 rfl) rfl
theorem q757 : (Jvm.Cond.privateMethod ({ cls := "PlugHall$Tokens", name := "digits", desc := "()V" } : Jvm.MethodName)) ∈ lw_tbl := lw_at lw_m3 182 rfl
theorem q758 : (Jvm.Cond.instanceMethod ({ cls := "PlugHall$Tokens", name := "digits", desc := "()V" } : Jvm.MethodName)) ∈ lw_all := lw_g (lw_at lw_m3 183 rfl) rfl
theorem q759 : (Jvm.Cond.code ({ cls := "PlugHall$Tokens", name := "digits", desc := "()V" } : Jvm.MethodName) prog_12_method_7_code (1 : Nat) (Option.none : Option Jvm.ClassFile.FieldType)) ∈ lw_all := lw_g (lw_at lw_m3 184 rfl) rfl
theorem q760 : (Jvm.Cond.methodLink "PlugHall$Reader" (86 : Nat) ({ cls := "PlugHall$Reader", name := "hub", desc := "(I)I" } : Jvm.MethodName)) ∈ lw_all := lw_g (lw_at lw_m3 185 rfl) rfl
theorem q761 : (Jvm.Cond.privateMethod ({ cls := "PlugHall$Reader", name := "hub", desc := "(I)I" } : Jvm.MethodName)) ∈ lw_tbl := lw_at lw_m3 186 rfl
theorem q762 : (Jvm.Cond.instanceMethod ({ cls := "PlugHall$Reader", name := "hub", desc := "(I)I" } : Jvm.MethodName)) ∈ lw_all := lw_g (lw_at lw_m3 187 rfl) rfl
theorem q763 : (Jvm.Cond.code ({ cls := "PlugHall$Reader", name := "hub", desc := "(I)I" } : Jvm.MethodName) prog_10_method_3_code (6 : Nat) (Option.some Jvm.ClassFile.FieldType.int)) ∈ lw_all := lw_g (lw_at lw_m3 188 rfl) rfl
theorem q764 : (Jvm.Cond.methodLink "PlugHall$Reader" (45 : Nat) ({ cls := "PlugHall$Reader", name := "sort", desc := "()LPlugHall$Sort;" } : Jvm.MethodName)) ∈ lw_all := lw_g (lw_at lw_m3 189 rfl) rfl
theorem q765 : (Jvm.Cond.privateMethod ({ cls := "PlugHall$Reader", name := "sort", desc := "()LPlugHall$Sort;" } : Jvm.MethodName)) ∈ lw_tbl := lw_at lw_m3 190 rfl
theorem q766 : (Jvm.Cond.instanceMethod ({ cls := "PlugHall$Reader", name := "sort", desc := "()LPlugHall$Sort;" } : Jvm.MethodName)) ∈ lw_all := lw_g (lw_at lw_m3 191 rfl) rfl
theorem q767 : (Jvm.Cond.code ({ cls := "PlugHall$Reader", name := "sort", desc := "()LPlugHall$Sort;" } : Jvm.MethodName) prog_10_method_2_code (5 : Nat) (Option.some (Jvm.ClassFile.FieldType.object "PlugHall$Sort"))) ∈ lw_all := lw_g (lw_at lw_m3 192 rfl) rfl
theorem q768 : (Jvm.Cond.fieldLinkNest "PlugHall$Reader" (24 : Nat) "PlugHall" "SORTS" "[LPlugHall$Sort;" "PlugHall") ∈ lw_tbl := lw_at lw_m3 193 rfl
theorem q769 : (Jvm.Cond.laysStatic "PlugHall" "SORTS" "[LPlugHall$Sort;") ∈ lw_tbl := lw_at lw_m3 194 rfl
theorem q770 : (Jvm.Cond.methodLink "PlugHall$Reader" (39 : Nat) ({ cls := "java/lang/String", name := "equals", desc := "(Ljava/lang/Object;)Z" } : Jvm.MethodName)) ∈ lw_all := lw_g (lw_at lw_m3 195 rfl) rfl
theorem q771 : (Jvm.Cond.instanceMethod ({ cls := "java/lang/String", name := "equals", desc := "(Ljava/lang/Object;)Z" } : Jvm.MethodName)) ∈ lw_all := lw_g (lw_at lw_m3 196 rfl) rfl
theorem q772 : (Jvm.Cond.selects "java/lang/String" ({ cls := "java/lang/String", name := "equals", desc := "(Ljava/lang/Object;)Z" } : Jvm.MethodName) ({ cls := "java/lang/String", name := "equals", desc := "(Ljava/lang/Object;)Z" } : Jvm.MethodName)) ∈ lw_all := lw_g (lw_at lw_m3 197 rfl) rfl
theorem q773 : (Jvm.Cond.code ({ cls := "java/lang/String", name := "equals", desc := "(Ljava/lang/Object;)Z" } : Jvm.MethodName) prog_21_method_66_code (3 : Nat) (Option.some Jvm.ClassFile.FieldType.boolean)) ∈ lw_all := lw_g (lw_at lw_m3 198 rfl) rfl
theorem q774 : (Jvm.Cond.classLink "java/lang/String" (10 : Nat) "java/lang/String") ∈ lw_all := lw_g (lw_at lw_m3 199 rfl) rfl
theorem q775 : (Jvm.Cond.methodLink "java/lang/String" (541 : Nat) ({ cls := "java/lang/StringLatin1", name := "equals", desc := "([B[B)Z" } : Jvm.MethodName)) ∈ lw_all := lw_g (lw_at lw_m3 200 rfl) rfl
theorem q776 : (Jvm.Cond.static ({ cls := "java/lang/StringLatin1", name := "equals", desc := "([B[B)Z" } : Jvm.MethodName)) ∈ lw_all := lw_g (lw_at lw_m3 201 rfl) rfl
theorem q777 : (Jvm.Cond.code ({ cls := "java/lang/StringLatin1", name := "equals", desc := "([B[B)Z" } : Jvm.MethodName) prog_23_method_13_code (3 : Nat) (Option.some Jvm.ClassFile.FieldType.boolean)) ∈ lw_all := lw_g (lw_at lw_m3 202 rfl) rfl
theorem q778 : (Jvm.Cond.methodLink "PlugHall$Reader" (49 : Nat) ({ cls := "PlugHall$Reader", name := "need", desc := "(ZI)V" } : Jvm.MethodName)) ∈ lw_all := lw_g (lw_at lw_m3 203 rfl) rfl
theorem q779 : (Jvm.Cond.sameMethod "PlugHall$Reader" "PlugHall$Tokens" "need" "(ZI)V") ∈ lw_all := lw_g (lw_at lw_m3 204 rfl) rfl
theorem q780 : (Jvm.Cond.declares ({ cls := "PlugHall$Tokens", name := "need", desc := "(ZI)V" } : Jvm.MethodName)) ∈ lw_tbl := lw_at lw_m3 205 rfl
theorem q781 : (Jvm.Cond.selects "PlugHall$Reader" ({ cls := "PlugHall$Reader", name := "need", desc := "(ZI)V" } : Jvm.MethodName) ({ cls := "PlugHall$Tokens", name := "need", desc := "(ZI)V" } : Jvm.MethodName)) ∈ lw_all := lw_g (lw_at lw_m3 206 rfl) rfl
theorem q782 : (Jvm.Cond.instanceMethod ({ cls := "PlugHall$Tokens", name := "need", desc := "(ZI)V" } : Jvm.MethodName)) ∈ lw_all := lw_g (lw_at lw_m3 207 rfl) rfl
theorem q783 : (Jvm.Cond.code ({ cls := "PlugHall$Tokens", name := "need", desc := "(ZI)V" } : Jvm.MethodName) prog_12_method_8_code (3 : Nat) (Option.none : Option Jvm.ClassFile.FieldType)) ∈ lw_all := lw_g (lw_at lw_m3 208 rfl) rfl
theorem q784 : (Jvm.Cond.classLink "PlugHall$Tokens" (69 : Nat) "PlugHall$Fault") ∈ lw_all := lw_g (lw_at lw_m3 209 rfl) rfl
theorem q785 : (Jvm.Cond.instantiable "PlugHall$Fault" (8 : Nat)) ∈ lw_all := lw_g (lw_at lw_m3 210 rfl) rfl
theorem q786 : (Jvm.Cond.castable "PlugHall$Fault" "PlugHall$Fault") ∈ lw_tbl := lw_at lw_m3 211 rfl
theorem q787 : (Jvm.Cond.declares ({ cls := "java/lang/Exception", name := "<init>", desc := "()V" } : Jvm.MethodName)) ∈ lw_tbl := lw_at lw_m3 212 rfl
theorem q788 : (Jvm.Cond.declares ({ cls := "java/lang/Exception", name := "<init>", desc := "(Ljava/lang/String;)V" } : Jvm.MethodName)) ∈ lw_tbl := lw_at lw_m3 213 rfl
theorem q789 : (Jvm.Cond.declares ({ cls := "java/lang/Throwable", name := "<init>", desc := "()V" } : Jvm.MethodName)) ∈ lw_tbl := lw_at lw_m3 214 rfl
theorem q790 : (Jvm.Cond.declares ({ cls := "java/lang/Throwable", name := "<init>", desc := "(Ljava/lang/String;)V" } : Jvm.MethodName)) ∈ lw_tbl := lw_at lw_m3 215 rfl
theorem q791 : (Jvm.Cond.selects "PlugHall$Fault" ({ cls := "java/lang/Throwable", name := "fillInStackTrace", desc := "(I)Ljava/lang/Throwable;" } : Jvm.MethodName) ({ cls := "java/lang/Throwable", name := "fillInStackTrace", desc := "(I)Ljava/lang/Throwable;" } : Jvm.MethodName)) ∈ lw_all := lw_g (lw_at lw_m3 216 rfl) rfl
theorem q792 : (Jvm.Cond.selects "PlugHall$Fault" ({ cls := "java/lang/Throwable", name := "fillInStackTrace", desc := "()Ljava/lang/Throwable;" } : Jvm.MethodName) ({ cls := "java/lang/Throwable", name := "fillInStackTrace", desc := "()Ljava/lang/Throwable;" } : Jvm.MethodName)) ∈ lw_all := lw_g (lw_at lw_m3 217 rfl) rfl
theorem q793 : (Jvm.Cond.lays "PlugHall$Fault" "java/lang/Throwable" "cause" "Ljava/lang/Throwable;") ∈ lw_all := lw_g (lw_at lw_m3 218 rfl) rfl
theorem q794 : (Jvm.Cond.lays "java/lang/Throwable" "java/lang/Throwable" "cause" "Ljava/lang/Throwable;") ∈ lw_all := lw_g (lw_at lw_m3 219 rfl) rfl
theorem q795 : (Jvm.Cond.lays "PlugHall$Fault" "java/lang/Throwable" "stackTrace" "[Ljava/lang/StackTraceElement;") ∈ lw_all := lw_g (lw_at lw_m3 220 rfl) rfl
theorem q796 : (Jvm.Cond.lays "java/lang/Throwable" "java/lang/Throwable" "stackTrace" "[Ljava/lang/StackTraceElement;") ∈ lw_all := lw_g (lw_at lw_m3 221 rfl) rfl
theorem q797 : (Jvm.Cond.lays "PlugHall$Fault" "java/lang/Throwable" "suppressedExceptions" "Ljava/util/List;") ∈ lw_all := lw_g (lw_at lw_m3 222 rfl) rfl
theorem q798 : (Jvm.Cond.lays "java/lang/Throwable" "java/lang/Throwable" "suppressedExceptions" "Ljava/util/List;") ∈ lw_all := lw_g (lw_at lw_m3 223 rfl) rfl
theorem q799 : (Jvm.Cond.lays "PlugHall$Fault" "java/lang/Throwable" "detailMessage" "Ljava/lang/String;") ∈ lw_all := lw_g (lw_at lw_m3 224 rfl) rfl
theorem q800 : (Jvm.Cond.lays "java/lang/Throwable" "java/lang/Throwable" "detailMessage" "Ljava/lang/String;") ∈ lw_all := lw_g (lw_at lw_m3 225 rfl) rfl
theorem q801 : (Jvm.Cond.lays "PlugHall$Fault" "java/lang/Throwable" "backtrace" "Ljava/lang/Object;") ∈ lw_all := lw_g (lw_at lw_m3 226 rfl) rfl
theorem q802 : (Jvm.Cond.lays "java/lang/Throwable" "java/lang/Throwable" "backtrace" "Ljava/lang/Object;") ∈ lw_all := lw_g (lw_at lw_m3 227 rfl) rfl
theorem q803 : (Jvm.Cond.fieldLink "java/lang/Throwable" (198 : Nat) "java/lang/Throwable" "backtrace" "Ljava/lang/Object;") ∈ lw_all := lw_g (lw_at lw_m3 228 rfl) rfl
theorem q804 : (Jvm.Cond.superclass "java/lang/Throwable" "java/lang/Object") ∈ lw_all := lw_g (lw_at lw_m3 229 rfl) rfl
theorem q805 : (Jvm.Cond.instanceMethod ({ cls := "java/lang/Throwable", name := "<init>", desc := "()V" } : Jvm.MethodName)) ∈ lw_all := lw_g (lw_at lw_m3 230 rfl) rfl
theorem q806 : (Jvm.Cond.code ({ cls := "java/lang/Throwable", name := "<init>", desc := "()V" } : Jvm.MethodName) prog_26_method_1_code (1 : Nat) (Option.none : Option Jvm.ClassFile.FieldType)) ∈ lw_all := lw_g (lw_at lw_m3 231 rfl) rfl
theorem q807 : (Jvm.Cond.methodLink "java/lang/Throwable" (1 : Nat) ({ cls := "java/lang/Object", name := "<init>", desc := "()V" } : Jvm.MethodName)) ∈ lw_all := lw_g (lw_at lw_m3 232 rfl) rfl
theorem q808 : (Jvm.Cond.fieldLink "java/lang/Throwable" (13 : Nat) "java/lang/Throwable" "UNASSIGNED_STACK" "[Ljava/lang/StackTraceElement;") ∈ lw_all := lw_g (lw_at lw_m3 233 rfl) rfl
theorem q809 : (Jvm.Cond.laysStatic "java/lang/Throwable" "UNASSIGNED_STACK" "[Ljava/lang/StackTraceElement;") ∈ lw_tbl := lw_at lw_m3 234 rfl
theorem q810 : (Jvm.Cond.fieldLink "java/lang/Throwable" (20 : Nat) "java/lang/Throwable" "SUPPRESSED_SENTINEL" "Ljava/util/List;") ∈ lw_all := lw_g (lw_at lw_m3 235 rfl) rfl
theorem q811 : (Jvm.Cond.laysStatic "java/lang/Throwable" "SUPPRESSED_SENTINEL" "Ljava/util/List;") ∈ lw_tbl := lw_at lw_m3 236 rfl
theorem q812 : (Jvm.Cond.methodLink "java/lang/Throwable" (27 : Nat) ({ cls := "java/lang/Throwable", name := "fillInStackTrace", desc := "()Ljava/lang/Throwable;" } : Jvm.MethodName)) ∈ lw_all := lw_g (lw_at lw_m3 237 rfl) rfl
theorem q813 : (Jvm.Cond.instanceMethod ({ cls := "java/lang/Throwable", name := "fillInStackTrace", desc := "()Ljava/lang/Throwable;" } : Jvm.MethodName)) ∈ lw_all := lw_g (lw_at lw_m3 238 rfl) rfl
theorem q814 : (Jvm.Cond.sameMethod "java/lang/Throwable" "java/lang/Throwable" "fillInStackTrace" "()Ljava/lang/Throwable;") ∈ lw_all := lw_g (lw_at lw_m3 239 rfl) rfl
theorem q815 : (Jvm.Cond.selects "java/util/NoSuchElementException" ({ cls := "java/lang/Throwable", name := "fillInStackTrace", desc := "()Ljava/lang/Throwable;" } : Jvm.MethodName) ({ cls := "java/lang/Throwable", name := "fillInStackTrace", desc := "()Ljava/lang/Throwable;" } : Jvm.MethodName)) ∈ lw_all := lw_g (lw_at lw_m4 0 rfl) rfl
theorem q816 : (Jvm.Cond.codeSync ({ cls := "java/lang/Throwable", name := "fillInStackTrace", desc := "()Ljava/lang/Throwable;" } : Jvm.MethodName) prog_26_method_18_code (1 : Nat) (Option.some (Jvm.ClassFile.FieldType.object "java/lang/Throwable"))) ∈ lw_all := lw_g (lw_at lw_m4 1 rfl) rfl
theorem q817 : (Jvm.Cond.methodLink "java/lang/Throwable" (202 : Nat) ({ cls := "java/lang/Throwable", name := "fillInStackTrace", desc := "(I)Ljava/lang/Throwable;" } : Jvm.MethodName)) ∈ lw_all := lw_g (lw_at lw_m4 2 rfl) rfl
theorem q818 : (Jvm.Cond.privateMethod ({ cls := "java/lang/Throwable", name := "fillInStackTrace", desc := "(I)Ljava/lang/Throwable;" } : Jvm.MethodName)) ∈ lw_tbl := lw_at lw_m4 3 rfl
theorem q819 : (Jvm.Cond.instanceMethod ({ cls := "java/lang/Throwable", name := "fillInStackTrace", desc := "(I)Ljava/lang/Throwable;" } : Jvm.MethodName)) ∈ lw_all := lw_g (lw_at lw_m4 4 rfl) rfl
theorem q820 : (Jvm.Cond.instantiable "java/lang/Throwable" (6 : Nat)) ∈ lw_all := lw_g (lw_at lw_m4 5 rfl) rfl
theorem q821 : (Jvm.Cond.native ({ cls := "java/lang/Throwable", name := "fillInStackTrace", desc := "(I)Ljava/lang/Throwable;" } : Jvm.MethodName)) ∈ lw_all := lw_g (lw_at lw_m4 6 rfl) rfl
theorem q822 : (Jvm.Cond.methodLink "PlugHall$Tokens" (71 : Nat) ({ cls := "PlugHall$Fault", name := "<init>", desc := "(II)V" } : Jvm.MethodName)) ∈ lw_all := lw_g (lw_at lw_m4 7 rfl) rfl
theorem q823 : (Jvm.Cond.instanceMethod ({ cls := "PlugHall$Fault", name := "<init>", desc := "(II)V" } : Jvm.MethodName)) ∈ lw_all := lw_g (lw_at lw_m4 8 rfl) rfl
theorem q824 : (Jvm.Cond.code ({ cls := "PlugHall$Fault", name := "<init>", desc := "(II)V" } : Jvm.MethodName) prog_4_method_1_code (3 : Nat) (Option.none : Option Jvm.ClassFile.FieldType)) ∈ lw_all := lw_g (lw_at lw_m4 9 rfl) rfl
theorem q825 : (Jvm.Cond.methodLink "PlugHall$Fault" (1 : Nat) ({ cls := "java/lang/Exception", name := "<init>", desc := "()V" } : Jvm.MethodName)) ∈ lw_all := lw_g (lw_at lw_m4 10 rfl) rfl
theorem q826 : (Jvm.Cond.instanceMethod ({ cls := "java/lang/Exception", name := "<init>", desc := "()V" } : Jvm.MethodName)) ∈ lw_all := lw_g (lw_at lw_m4 11 rfl) rfl
theorem q827 : (Jvm.Cond.code ({ cls := "java/lang/Exception", name := "<init>", desc := "()V" } : Jvm.MethodName) prog_18_method_1_code (1 : Nat) (Option.none : Option Jvm.ClassFile.FieldType)) ∈ lw_all := lw_g (lw_at lw_m4 12 rfl) rfl
theorem q828 : (Jvm.Cond.methodLink "java/lang/Exception" (1 : Nat) ({ cls := "java/lang/Throwable", name := "<init>", desc := "()V" } : Jvm.MethodName)) ∈ lw_all := lw_g (lw_at lw_m4 13 rfl) rfl
theorem q829 : (Jvm.Cond.fieldLink "PlugHall$Fault" (7 : Nat) "PlugHall$Fault" "kind" "I") ∈ lw_all := lw_g (lw_at lw_m4 14 rfl) rfl
theorem q830 : (Jvm.Cond.fieldLinkNest "PlugHall" (167 : Nat) "PlugHall$Fault" "kind" "I" "PlugHall") ∈ lw_tbl := lw_at lw_m4 15 rfl
theorem q831 : (Jvm.Cond.fieldLink "PlugHall$Fault" (13 : Nat) "PlugHall$Fault" "place" "I") ∈ lw_all := lw_g (lw_at lw_m4 16 rfl) rfl
theorem q832 : (Jvm.Cond.fieldLinkNest "PlugHall" (170 : Nat) "PlugHall$Fault" "place" "I" "PlugHall") ∈ lw_tbl := lw_at lw_m4 17 rfl
theorem q833 : (Jvm.Cond.fieldLink "java/lang/Throwable" (198 : Nat) "java/lang/Throwable" "backtrace" "Ljava/lang/Object;") ∈ lw_all := lw_g (lw_at lw_m4 18 rfl) rfl
theorem q834 : (Jvm.Cond.fieldLink "java/lang/Throwable" (7 : Nat) "java/lang/Throwable" "cause" "Ljava/lang/Throwable;") ∈ lw_all := lw_g (lw_at lw_m4 19 rfl) rfl
theorem q835 : (Jvm.Cond.fieldLink "java/lang/Throwable" (17 : Nat) "java/lang/Throwable" "stackTrace" "[Ljava/lang/StackTraceElement;") ∈ lw_all := lw_g (lw_at lw_m4 20 rfl) rfl
theorem q836 : (Jvm.Cond.fieldLink "java/lang/Throwable" (24 : Nat) "java/lang/Throwable" "suppressedExceptions" "Ljava/util/List;") ∈ lw_all := lw_g (lw_at lw_m4 21 rfl) rfl
theorem q837 : (Jvm.Cond.laysFinal "PlugHall$Fault" "PlugHall$Fault" "kind" "I") ∈ lw_all := lw_g (lw_at lw_m4 22 rfl) rfl
theorem q838 : (Jvm.Cond.soleField "PlugHall$Fault" "kind") ∈ lw_all := lw_g (lw_at lw_m4 23 rfl) rfl
theorem q839 : (Jvm.Cond.laysFinal "PlugHall$Fault" "PlugHall$Fault" "place" "I") ∈ lw_all := lw_g (lw_at lw_m4 24 rfl) rfl
theorem q840 : (Jvm.Cond.soleField "PlugHall$Fault" "place") ∈ lw_all := lw_g (lw_at lw_m4 25 rfl) rfl
theorem q841 : (Jvm.Cond.soleField "java/lang/Throwable" "backtrace") ∈ lw_all := lw_g (lw_at lw_m4 26 rfl) rfl
theorem q842 : (Jvm.Cond.soleField "java/lang/Throwable" "detailMessage") ∈ lw_all := lw_g (lw_at lw_m4 27 rfl) rfl
theorem q843 : (Jvm.Cond.soleField "java/lang/Throwable" "cause") ∈ lw_all := lw_g (lw_at lw_m4 28 rfl) rfl
theorem q844 : (Jvm.Cond.soleField "java/lang/Throwable" "stackTrace") ∈ lw_all := lw_g (lw_at lw_m4 29 rfl) rfl
theorem q845 : (Jvm.Cond.lays "PlugHall$Fault" "java/lang/Throwable" "depth" "I") ∈ lw_all := lw_g (lw_at lw_m4 30 rfl) rfl
theorem q846 : (Jvm.Cond.soleField "java/lang/Throwable" "depth") ∈ lw_all := lw_g (lw_at lw_m4 31 rfl) rfl
theorem q847 : (Jvm.Cond.soleField "java/lang/Throwable" "suppressedExceptions") ∈ lw_all := lw_g (lw_at lw_m4 32 rfl) rfl
theorem q848 : (Jvm.Cond.superclass "PlugHall$Fault" "java/lang/Exception") ∈ lw_all := lw_g (lw_at lw_m4 33 rfl) rfl
theorem q849 : (Jvm.Cond.methodLink "PlugHall$Reader" (66 : Nat) ({ cls := "PlugHall$Reader", name := "number", desc := "(II)I" } : Jvm.MethodName)) ∈ lw_all := lw_g (lw_at lw_m4 34 rfl) rfl
theorem q850 : (Jvm.Cond.sameMethod "PlugHall$Reader" "PlugHall$Tokens" "number" "(II)I") ∈ lw_all := lw_g (lw_at lw_m4 35 rfl) rfl
theorem q851 : (Jvm.Cond.declares ({ cls := "PlugHall$Tokens", name := "number", desc := "(II)I" } : Jvm.MethodName)) ∈ lw_tbl := lw_at lw_m4 36 rfl
theorem q852 : (Jvm.Cond.selects "PlugHall$Reader" ({ cls := "PlugHall$Reader", name := "number", desc := "(II)I" } : Jvm.MethodName) ({ cls := "PlugHall$Tokens", name := "number", desc := "(II)I" } : Jvm.MethodName)) ∈ lw_all := lw_g (lw_at lw_m4 37 rfl) rfl
theorem q853 : (Jvm.Cond.instanceMethod ({ cls := "PlugHall$Tokens", name := "number", desc := "(II)I" } : Jvm.MethodName)) ∈ lw_all := lw_g (lw_at lw_m4 38 rfl) rfl
theorem q854 : (Jvm.Cond.code ({ cls := "PlugHall$Tokens", name := "number", desc := "(II)I" } : Jvm.MethodName) prog_12_method_11_code (4 : Nat) (Option.some Jvm.ClassFile.FieldType.int)) ∈ lw_all := lw_g (lw_at lw_m4 39 rfl) rfl
theorem q855 : (Jvm.Cond.methodLink "PlugHall$Tokens" (80 : Nat) ({ cls := "PlugHall$Tokens", name := "need", desc := "(ZI)V" } : Jvm.MethodName)) ∈ lw_all := lw_g (lw_at lw_m4 40 rfl) rfl
theorem q856 : (Jvm.Cond.methodLinkNest "PlugHall$Tokens" (87 : Nat) ({ cls := "PlugHall", name := "isIn", desc := "(III)Z" } : Jvm.MethodName) "PlugHall") ∈ lw_tbl := lw_at lw_m4 41 rfl
theorem q857 : (Jvm.Cond.methodLink "PlugHall$Tokens" (84 : Nat) ({ cls := "PlugHall$Tokens", name := "go", desc := "()V" } : Jvm.MethodName)) ∈ lw_all := lw_g (lw_at lw_m4 42 rfl) rfl
theorem q858 : (Jvm.Cond.methodLink "PlugHall$Reader" (73 : Nat) ({ cls := "PlugHall$Reader", name := "sign", desc := "(I)V" } : Jvm.MethodName)) ∈ lw_all := lw_g (lw_at lw_m4 43 rfl) rfl
theorem q859 : (Jvm.Cond.sameMethod "PlugHall$Reader" "PlugHall$Tokens" "sign" "(I)V") ∈ lw_all := lw_g (lw_at lw_m4 44 rfl) rfl
theorem q860 : (Jvm.Cond.declares ({ cls := "PlugHall$Tokens", name := "sign", desc := "(I)V" } : Jvm.MethodName)) ∈ lw_tbl := lw_at lw_m4 45 rfl
theorem q861 : (Jvm.Cond.selects "PlugHall$Reader" ({ cls := "PlugHall$Reader", name := "sign", desc := "(I)V" } : Jvm.MethodName) ({ cls := "PlugHall$Tokens", name := "sign", desc := "(I)V" } : Jvm.MethodName)) ∈ lw_all := lw_g (lw_at lw_m4 46 rfl) rfl
theorem q862 : (Jvm.Cond.instanceMethod ({ cls := "PlugHall$Tokens", name := "sign", desc := "(I)V" } : Jvm.MethodName)) ∈ lw_all := lw_g (lw_at lw_m4 47 rfl) rfl
theorem q863 : (Jvm.Cond.code ({ cls := "PlugHall$Tokens", name := "sign", desc := "(I)V" } : Jvm.MethodName) prog_12_method_10_code (2 : Nat) (Option.none : Option Jvm.ClassFile.FieldType)) ∈ lw_all := lw_g (lw_at lw_m4 48 rfl) rfl
theorem q864 : (Jvm.Cond.methodLinkNest "PlugHall$Reader" (77 : Nat) ({ cls := "PlugHall", name := "mostOf", desc := "(I)I" } : Jvm.MethodName) "PlugHall") ∈ lw_tbl := lw_at lw_m4 49 rfl
theorem q865 : (Jvm.Cond.static ({ cls := "PlugHall", name := "mostOf", desc := "(I)I" } : Jvm.MethodName)) ∈ lw_all := lw_g (lw_at lw_m4 50 rfl) rfl
theorem q866 : (Jvm.Cond.code ({ cls := "PlugHall", name := "mostOf", desc := "(I)I" } : Jvm.MethodName) prog_1_method_3_code (1 : Nat) (Option.some Jvm.ClassFile.FieldType.int)) ∈ lw_all := lw_g (lw_at lw_m4 51 rfl) rfl
theorem q867 : (Jvm.Cond.classLink "PlugHall$Reader" (81 : Nat) "PlugHall$Fault") ∈ lw_all := lw_g (lw_at lw_m4 52 rfl) rfl
theorem q868 : (Jvm.Cond.methodLink "PlugHall$Reader" (83 : Nat) ({ cls := "PlugHall$Fault", name := "<init>", desc := "(II)V" } : Jvm.MethodName)) ∈ lw_all := lw_g (lw_at lw_m4 53 rfl) rfl
theorem q869 : (Jvm.Cond.methodLink "PlugHall$Reader" (89 : Nat) ({ cls := "PlugHall$Board", name := "add", desc := "(II)Z" } : Jvm.MethodName)) ∈ lw_all := lw_g (lw_at lw_m4 54 rfl) rfl
theorem q870 : (Jvm.Cond.instanceMethod ({ cls := "PlugHall$Board", name := "add", desc := "(II)Z" } : Jvm.MethodName)) ∈ lw_all := lw_g (lw_at lw_m4 55 rfl) rfl
theorem q871 : (Jvm.Cond.selects "PlugHall$Board" ({ cls := "PlugHall$Board", name := "add", desc := "(II)Z" } : Jvm.MethodName) ({ cls := "PlugHall$Board", name := "add", desc := "(II)Z" } : Jvm.MethodName)) ∈ lw_all := lw_g (lw_at lw_m4 56 rfl) rfl
theorem q872 : (Jvm.Cond.code ({ cls := "PlugHall$Board", name := "add", desc := "(II)Z" } : Jvm.MethodName) prog_2_method_2_code (3 : Nat) (Option.some Jvm.ClassFile.FieldType.boolean)) ∈ lw_all := lw_g (lw_at lw_m4 57 rfl) rfl
theorem q873 : (Jvm.Cond.methodLink "PlugHallLaw" (66 : Nat) ({ cls := "PlugHall", name := "fault", desc := "()I" } : Jvm.MethodName)) ∈ lw_all := lw_g (lw_at lw_m4 58 rfl) rfl
theorem q874 : (Jvm.Cond.instanceMethod ({ cls := "PlugHall", name := "fault", desc := "()I" } : Jvm.MethodName)) ∈ lw_all := lw_g (lw_at lw_m4 59 rfl) rfl
theorem q875 : (Jvm.Cond.selects "PlugHall" ({ cls := "PlugHall", name := "fault", desc := "()I" } : Jvm.MethodName) ({ cls := "PlugHall", name := "fault", desc := "()I" } : Jvm.MethodName)) ∈ lw_all := lw_g (lw_at lw_m4 60 rfl) rfl
theorem q876 : (Jvm.Cond.code ({ cls := "PlugHall", name := "fault", desc := "()I" } : Jvm.MethodName) prog_1_method_17_code (1 : Nat) (Option.some Jvm.ClassFile.FieldType.int)) ∈ lw_all := lw_g (lw_at lw_m4 61 rfl) rfl
theorem q877 : (Jvm.Cond.methodLink "PlugHallLaw" (70 : Nat) ({ cls := "PlugHall", name := "run", desc := "(II)I" } : Jvm.MethodName)) ∈ lw_all := lw_g (lw_at lw_m4 62 rfl) rfl
theorem q878 : (Jvm.Cond.instanceMethod ({ cls := "PlugHall", name := "run", desc := "(II)I" } : Jvm.MethodName)) ∈ lw_all := lw_g (lw_at lw_m4 63 rfl) rfl
theorem q879 : (Jvm.Cond.selects "PlugHall" ({ cls := "PlugHall", name := "run", desc := "(II)I" } : Jvm.MethodName) ({ cls := "PlugHall", name := "run", desc := "(II)I" } : Jvm.MethodName)) ∈ lw_all := lw_g (lw_at lw_m4 64 rfl) rfl
theorem q880 : (Jvm.Cond.code ({ cls := "PlugHall", name := "run", desc := "(II)I" } : Jvm.MethodName) prog_1_method_18_code (5 : Nat) (Option.some Jvm.ClassFile.FieldType.int)) ∈ lw_all := lw_g (lw_at lw_m4 65 rfl) rfl
theorem q881 : (Jvm.Cond.methodLink "PlugHall" (173 : Nat) ({ cls := "PlugHall$Machine", name := "run", desc := "(LPlugHall$Board;I[[BIIILPlugHall$Outcome;)V" } : Jvm.MethodName)) ∈ lw_all := lw_g (lw_at lw_m4 66 rfl) rfl
theorem q882 : (Jvm.Cond.instanceMethod ({ cls := "PlugHall$Machine", name := "run", desc := "(LPlugHall$Board;I[[BIIILPlugHall$Outcome;)V" } : Jvm.MethodName)) ∈ lw_all := lw_g (lw_at lw_m4 67 rfl) rfl
theorem q883 : (Jvm.Cond.selects "PlugHall$Machine" ({ cls := "PlugHall$Machine", name := "run", desc := "(LPlugHall$Board;I[[BIIILPlugHall$Outcome;)V" } : Jvm.MethodName) ({ cls := "PlugHall$Machine", name := "run", desc := "(LPlugHall$Board;I[[BIIILPlugHall$Outcome;)V" } : Jvm.MethodName)) ∈ lw_all := lw_g (lw_at lw_m4 68 rfl) rfl
theorem q884 : (Jvm.Cond.code ({ cls := "PlugHall$Machine", name := "run", desc := "(LPlugHall$Board;I[[BIIILPlugHall$Outcome;)V" } : Jvm.MethodName) prog_7_method_16_code (12 : Nat) (Option.none : Option Jvm.ClassFile.FieldType)) ∈ lw_all := lw_g (lw_at lw_m4 69 rfl) rfl
theorem q885 : (Jvm.Cond.methodLink "PlugHall$Machine" (130 : Nat) ({ cls := "PlugHall$Outcome", name := "begin", desc := "()V" } : Jvm.MethodName)) ∈ lw_all := lw_g (lw_at lw_m4 70 rfl) rfl
theorem q886 : (Jvm.Cond.instanceMethod ({ cls := "PlugHall$Outcome", name := "begin", desc := "()V" } : Jvm.MethodName)) ∈ lw_all := lw_g (lw_at lw_m4 71 rfl) rfl
theorem q887 : (Jvm.Cond.selects "PlugHall$Outcome" ({ cls := "PlugHall$Outcome", name := "begin", desc := "()V" } : Jvm.MethodName) ({ cls := "PlugHall$Outcome", name := "begin", desc := "()V" } : Jvm.MethodName)) ∈ lw_all := lw_g (lw_at lw_m4 72 rfl) rfl
theorem q888 : (Jvm.Cond.code ({ cls := "PlugHall$Outcome", name := "begin", desc := "()V" } : Jvm.MethodName) prog_9_method_2_code (2 : Nat) (Option.none : Option Jvm.ClassFile.FieldType)) ∈ lw_all := lw_g (lw_at lw_m4 73 rfl) rfl
theorem q889 : (Jvm.Cond.methodLink "PlugHall$Machine" (133 : Nat) ({ cls := "PlugHall$Machine", name := "giveCard", desc := "([B[B)V" } : Jvm.MethodName)) ∈ lw_all := lw_g (lw_at lw_m4 74 rfl) rfl
theorem q890 : (Jvm.Cond.privateMethod ({ cls := "PlugHall$Machine", name := "giveCard", desc := "([B[B)V" } : Jvm.MethodName)) ∈ lw_tbl := lw_at lw_m4 75 rfl
theorem q891 : (Jvm.Cond.instanceMethod ({ cls := "PlugHall$Machine", name := "giveCard", desc := "([B[B)V" } : Jvm.MethodName)) ∈ lw_all := lw_g (lw_at lw_m4 76 rfl) rfl
theorem q892 : (Jvm.Cond.code ({ cls := "PlugHall$Machine", name := "giveCard", desc := "([B[B)V" } : Jvm.MethodName) prog_7_method_8_code (4 : Nat) (Option.none : Option Jvm.ClassFile.FieldType)) ∈ lw_all := lw_g (lw_at lw_m4 77 rfl) rfl
theorem q893 : (Jvm.Cond.methodLink "PlugHall$Machine" (51 : Nat) ({ cls := "java/util/Arrays", name := "fill", desc := "([II)V" } : Jvm.MethodName)) ∈ lw_all := lw_g (lw_at lw_m4 78 rfl) rfl
theorem q894 : (Jvm.Cond.static ({ cls := "java/util/Arrays", name := "fill", desc := "([II)V" } : Jvm.MethodName)) ∈ lw_all := lw_g (lw_at lw_m4 79 rfl) rfl
theorem q895 : (Jvm.Cond.code ({ cls := "java/util/Arrays", name := "fill", desc := "([II)V" } : Jvm.MethodName) prog_27_method_103_code (4 : Nat) (Option.none : Option Jvm.ClassFile.FieldType)) ∈ lw_all := lw_g (lw_at lw_m4 80 rfl) rfl
theorem q896 : (Jvm.Cond.methodLink "PlugHall$Machine" (137 : Nat) ({ cls := "PlugHall$Machine", name := "settle", desc := "(Z)Z" } : Jvm.MethodName)) ∈ lw_all := lw_g (lw_at lw_m4 81 rfl) rfl
theorem q897 : (Jvm.Cond.privateMethod ({ cls := "PlugHall$Machine", name := "settle", desc := "(Z)Z" } : Jvm.MethodName)) ∈ lw_tbl := lw_at lw_m4 82 rfl
theorem q898 : (Jvm.Cond.instanceMethod ({ cls := "PlugHall$Machine", name := "settle", desc := "(Z)Z" } : Jvm.MethodName)) ∈ lw_all := lw_g (lw_at lw_m4 83 rfl) rfl
theorem q899 : (Jvm.Cond.code ({ cls := "PlugHall$Machine", name := "settle", desc := "(Z)Z" } : Jvm.MethodName) prog_7_method_10_code (5 : Nat) (Option.some Jvm.ClassFile.FieldType.boolean)) ∈ lw_all := lw_g (lw_at lw_m4 84 rfl) rfl
theorem q900 : (Jvm.Cond.methodLink "PlugHall$Machine" (77 : Nat) ({ cls := "PlugHall$Machine", name := "joinNets", desc := "()V" } : Jvm.MethodName)) ∈ lw_all := lw_g (lw_at lw_m4 85 rfl) rfl
theorem q901 : (Jvm.Cond.privateMethod ({ cls := "PlugHall$Machine", name := "joinNets", desc := "()V" } : Jvm.MethodName)) ∈ lw_tbl := lw_at lw_m4 86 rfl
theorem q902 : (Jvm.Cond.instanceMethod ({ cls := "PlugHall$Machine", name := "joinNets", desc := "()V" } : Jvm.MethodName)) ∈ lw_all := lw_g (lw_at lw_m4 87 rfl) rfl
theorem q903 : (Jvm.Cond.code ({ cls := "PlugHall$Machine", name := "joinNets", desc := "()V" } : Jvm.MethodName) prog_7_method_4_code (2 : Nat) (Option.none : Option Jvm.ClassFile.FieldType)) ∈ lw_all := lw_g (lw_at lw_m4 88 rfl) rfl
theorem q904 : (Jvm.Cond.methodLink "PlugHall$Machine" (44 : Nat) ({ cls := "PlugHall$Machine", name := "join", desc := "(II)V" } : Jvm.MethodName)) ∈ lw_all := lw_g (lw_at lw_m4 89 rfl) rfl
theorem q905 : (Jvm.Cond.privateMethod ({ cls := "PlugHall$Machine", name := "join", desc := "(II)V" } : Jvm.MethodName)) ∈ lw_tbl := lw_at lw_m4 90 rfl
theorem q906 : (Jvm.Cond.instanceMethod ({ cls := "PlugHall$Machine", name := "join", desc := "(II)V" } : Jvm.MethodName)) ∈ lw_all := lw_g (lw_at lw_m4 91 rfl) rfl
theorem q907 : (Jvm.Cond.code ({ cls := "PlugHall$Machine", name := "join", desc := "(II)V" } : Jvm.MethodName) prog_7_method_3_code (3 : Nat) (Option.none : Option Jvm.ClassFile.FieldType)) ∈ lw_all := lw_g (lw_at lw_m4 92 rfl) rfl
theorem q908 : (Jvm.Cond.methodLink "PlugHall$Machine" (21 : Nat) ({ cls := "PlugHall$Machine", name := "root", desc := "(I)I" } : Jvm.MethodName)) ∈ lw_all := lw_g (lw_at lw_m4 93 rfl) rfl
theorem q909 : (Jvm.Cond.privateMethod ({ cls := "PlugHall$Machine", name := "root", desc := "(I)I" } : Jvm.MethodName)) ∈ lw_tbl := lw_at lw_m4 94 rfl
theorem q910 : (Jvm.Cond.instanceMethod ({ cls := "PlugHall$Machine", name := "root", desc := "(I)I" } : Jvm.MethodName)) ∈ lw_all := lw_g (lw_at lw_m4 95 rfl) rfl
theorem q911 : (Jvm.Cond.code ({ cls := "PlugHall$Machine", name := "root", desc := "(I)I" } : Jvm.MethodName) prog_7_method_2_code (3 : Nat) (Option.some Jvm.ClassFile.FieldType.int)) ∈ lw_all := lw_g (lw_at lw_m4 96 rfl) rfl
theorem q912 : (Jvm.Cond.methodLink "PlugHall$Machine" (80 : Nat) ({ cls := "PlugHall$Machine", name := "seek", desc := "()Z" } : Jvm.MethodName)) ∈ lw_all := lw_g (lw_at lw_m4 97 rfl) rfl
theorem q913 : (Jvm.Cond.privateMethod ({ cls := "PlugHall$Machine", name := "seek", desc := "()Z" } : Jvm.MethodName)) ∈ lw_tbl := lw_at lw_m4 98 rfl
theorem q914 : (Jvm.Cond.instanceMethod ({ cls := "PlugHall$Machine", name := "seek", desc := "()Z" } : Jvm.MethodName)) ∈ lw_all := lw_g (lw_at lw_m4 99 rfl) rfl
theorem q915 : (Jvm.Cond.code ({ cls := "PlugHall$Machine", name := "seek", desc := "()Z" } : Jvm.MethodName) prog_7_method_5_code (5 : Nat) (Option.some Jvm.ClassFile.FieldType.boolean)) ∈ lw_all := lw_g (lw_at lw_m4 100 rfl) rfl
theorem q916 : (Jvm.Cond.methodLink "PlugHall$Machine" (84 : Nat) ({ cls := "PlugHall$Machine", name := "takes", desc := "(I)Z" } : Jvm.MethodName)) ∈ lw_all := lw_g (lw_at lw_m4 101 rfl) rfl
theorem q917 : (Jvm.Cond.privateMethod ({ cls := "PlugHall$Machine", name := "takes", desc := "(I)Z" } : Jvm.MethodName)) ∈ lw_tbl := lw_at lw_m4 102 rfl
theorem q918 : (Jvm.Cond.instanceMethod ({ cls := "PlugHall$Machine", name := "takes", desc := "(I)Z" } : Jvm.MethodName)) ∈ lw_all := lw_g (lw_at lw_m4 103 rfl) rfl
theorem q919 : (Jvm.Cond.code ({ cls := "PlugHall$Machine", name := "takes", desc := "(I)Z" } : Jvm.MethodName) prog_7_method_7_code (2 : Nat) (Option.some Jvm.ClassFile.FieldType.boolean)) ∈ lw_all := lw_g (lw_at lw_m4 104 rfl) rfl
theorem q920 : (Jvm.Cond.methodLink "PlugHall$Machine" (88 : Nat) ({ cls := "PlugHall$Machine", name := "take", desc := "(I)I" } : Jvm.MethodName)) ∈ lw_all := lw_g (lw_at lw_m4 105 rfl) rfl
theorem q921 : (Jvm.Cond.privateMethod ({ cls := "PlugHall$Machine", name := "take", desc := "(I)I" } : Jvm.MethodName)) ∈ lw_tbl := lw_at lw_m4 106 rfl
theorem q922 : (Jvm.Cond.instanceMethod ({ cls := "PlugHall$Machine", name := "take", desc := "(I)I" } : Jvm.MethodName)) ∈ lw_all := lw_g (lw_at lw_m4 107 rfl) rfl
theorem q923 : (Jvm.Cond.code ({ cls := "PlugHall$Machine", name := "take", desc := "(I)I" } : Jvm.MethodName) prog_7_method_6_code (3 : Nat) (Option.some Jvm.ClassFile.FieldType.int)) ∈ lw_all := lw_g (lw_at lw_m4 108 rfl) rfl
theorem q924 : (Jvm.Cond.methodLink "PlugHall$Machine" (141 : Nat) ({ cls := "PlugHall$Machine", name := "breaks", desc := "()I" } : Jvm.MethodName)) ∈ lw_all := lw_g (lw_at lw_m4 109 rfl) rfl
theorem q925 : (Jvm.Cond.privateMethod ({ cls := "PlugHall$Machine", name := "breaks", desc := "()I" } : Jvm.MethodName)) ∈ lw_tbl := lw_at lw_m4 110 rfl
theorem q926 : (Jvm.Cond.instanceMethod ({ cls := "PlugHall$Machine", name := "breaks", desc := "()I" } : Jvm.MethodName)) ∈ lw_all := lw_g (lw_at lw_m4 111 rfl) rfl
theorem q927 : (Jvm.Cond.code ({ cls := "PlugHall$Machine", name := "breaks", desc := "()I" } : Jvm.MethodName) prog_7_method_15_code (3 : Nat) (Option.some Jvm.ClassFile.FieldType.int)) ∈ lw_all := lw_g (lw_at lw_m4 112 rfl) rfl
theorem q928 : (Jvm.Cond.methodLink "PlugHall$Machine" (145 : Nat) ({ cls := "PlugHall$Machine", name := "act", desc := "()Z" } : Jvm.MethodName)) ∈ lw_all := lw_g (lw_at lw_m4 113 rfl) rfl
theorem q929 : (Jvm.Cond.privateMethod ({ cls := "PlugHall$Machine", name := "act", desc := "()Z" } : Jvm.MethodName)) ∈ lw_tbl := lw_at lw_m4 114 rfl
theorem q930 : (Jvm.Cond.instanceMethod ({ cls := "PlugHall$Machine", name := "act", desc := "()Z" } : Jvm.MethodName)) ∈ lw_all := lw_g (lw_at lw_m4 115 rfl) rfl
theorem q931 : (Jvm.Cond.code ({ cls := "PlugHall$Machine", name := "act", desc := "()Z" } : Jvm.MethodName) prog_7_method_11_code (1 : Nat) (Option.some Jvm.ClassFile.FieldType.boolean)) ∈ lw_all := lw_g (lw_at lw_m4 116 rfl) rfl
theorem q932 : (Jvm.Cond.methodLink "PlugHall$Machine" (96 : Nat) ({ cls := "PlugHall$Machine", name := "print", desc := "()Z" } : Jvm.MethodName)) ∈ lw_all := lw_g (lw_at lw_m4 117 rfl) rfl
theorem q933 : (Jvm.Cond.privateMethod ({ cls := "PlugHall$Machine", name := "print", desc := "()Z" } : Jvm.MethodName)) ∈ lw_tbl := lw_at lw_m4 118 rfl
theorem q934 : (Jvm.Cond.instanceMethod ({ cls := "PlugHall$Machine", name := "print", desc := "()Z" } : Jvm.MethodName)) ∈ lw_all := lw_g (lw_at lw_m4 119 rfl) rfl
theorem q935 : (Jvm.Cond.code ({ cls := "PlugHall$Machine", name := "print", desc := "()Z" } : Jvm.MethodName) prog_7_method_12_code (3 : Nat) (Option.some Jvm.ClassFile.FieldType.boolean)) ∈ lw_all := lw_g (lw_at lw_m4 120 rfl) rfl
theorem q936 : (Jvm.Cond.methodLink "PlugHall$Machine" (99 : Nat) ({ cls := "PlugHall$Machine", name := "count", desc := "()Z" } : Jvm.MethodName)) ∈ lw_all := lw_g (lw_at lw_m4 121 rfl) rfl
theorem q937 : (Jvm.Cond.privateMethod ({ cls := "PlugHall$Machine", name := "count", desc := "()Z" } : Jvm.MethodName)) ∈ lw_tbl := lw_at lw_m4 122 rfl
theorem q938 : (Jvm.Cond.instanceMethod ({ cls := "PlugHall$Machine", name := "count", desc := "()Z" } : Jvm.MethodName)) ∈ lw_all := lw_g (lw_at lw_m4 123 rfl) rfl
theorem q939 : (Jvm.Cond.code ({ cls := "PlugHall$Machine", name := "count", desc := "()Z" } : Jvm.MethodName) prog_7_method_13_code (4 : Nat) (Option.some Jvm.ClassFile.FieldType.boolean)) ∈ lw_all := lw_g (lw_at lw_m4 124 rfl) rfl
theorem q940 : (Jvm.Cond.methodLink "PlugHall$Machine" (112 : Nat) ({ cls := "java/lang/Math", name := "max", desc := "(II)I" } : Jvm.MethodName)) ∈ lw_all := lw_g (lw_at lw_m4 125 rfl) rfl
theorem q941 : (Jvm.Cond.methodLink "PlugHall$Machine" (72 : Nat) ({ cls := "java/lang/Math", name := "abs", desc := "(I)I" } : Jvm.MethodName)) ∈ lw_all := lw_g (lw_at lw_m4 126 rfl) rfl
theorem q942 : (Jvm.Cond.static ({ cls := "java/lang/Math", name := "abs", desc := "(I)I" } : Jvm.MethodName)) ∈ lw_all := lw_g (lw_at lw_m4 127 rfl) rfl
theorem q943 : (Jvm.Cond.code ({ cls := "java/lang/Math", name := "abs", desc := "(I)I" } : Jvm.MethodName) prog_19_method_59_code (1 : Nat) (Option.some Jvm.ClassFile.FieldType.int)) ∈ lw_all := lw_g (lw_at lw_m4 128 rfl) rfl
theorem q944 : (Jvm.Cond.constant "PlugHall$Machine" (116 : Nat) (999999 : Int32)) ∈ lw_all := lw_g (lw_at lw_m4 129 rfl) rfl
theorem q945 : (Jvm.Cond.constant "PlugHall$Machine" (120 : Nat) (1000000 : Int32)) ∈ lw_all := lw_g (lw_at lw_m4 130 rfl) rfl
theorem q946 : (Jvm.Cond.methodLink "PlugHall$Machine" (102 : Nat) ({ cls := "PlugHall$Machine", name := "punch", desc := "()Z" } : Jvm.MethodName)) ∈ lw_all := lw_g (lw_at lw_m4 131 rfl) rfl
theorem q947 : (Jvm.Cond.privateMethod ({ cls := "PlugHall$Machine", name := "punch", desc := "()Z" } : Jvm.MethodName)) ∈ lw_tbl := lw_at lw_m4 132 rfl
theorem q948 : (Jvm.Cond.instanceMethod ({ cls := "PlugHall$Machine", name := "punch", desc := "()Z" } : Jvm.MethodName)) ∈ lw_all := lw_g (lw_at lw_m4 133 rfl) rfl
theorem q949 : (Jvm.Cond.code ({ cls := "PlugHall$Machine", name := "punch", desc := "()Z" } : Jvm.MethodName) prog_7_method_14_code (2 : Nat) (Option.some Jvm.ClassFile.FieldType.boolean)) ∈ lw_all := lw_g (lw_at lw_m4 134 rfl) rfl
theorem q950 : (Jvm.Cond.methodLink "PlugHall$Machine" (151 : Nat) ({ cls := "PlugHall$Machine", name := "giveTotal", desc := "(I)V" } : Jvm.MethodName)) ∈ lw_all := lw_g (lw_at lw_m4 135 rfl) rfl
theorem q951 : (Jvm.Cond.privateMethod ({ cls := "PlugHall$Machine", name := "giveTotal", desc := "(I)V" } : Jvm.MethodName)) ∈ lw_tbl := lw_at lw_m4 136 rfl
theorem q952 : (Jvm.Cond.instanceMethod ({ cls := "PlugHall$Machine", name := "giveTotal", desc := "(I)V" } : Jvm.MethodName)) ∈ lw_all := lw_g (lw_at lw_m4 137 rfl) rfl
theorem q953 : (Jvm.Cond.code ({ cls := "PlugHall$Machine", name := "giveTotal", desc := "(I)V" } : Jvm.MethodName) prog_7_method_9_code (5 : Nat) (Option.none : Option Jvm.ClassFile.FieldType)) ∈ lw_all := lw_g (lw_at lw_m4 138 rfl) rfl
theorem q954 : (Jvm.Cond.methodLink "PlugHallLaw" (74 : Nat) ({ cls := "PlugHall", name := "ran", desc := "(I)I" } : Jvm.MethodName)) ∈ lw_all := lw_g (lw_at lw_m4 139 rfl) rfl
theorem q955 : (Jvm.Cond.instanceMethod ({ cls := "PlugHall", name := "ran", desc := "(I)I" } : Jvm.MethodName)) ∈ lw_all := lw_g (lw_at lw_m4 140 rfl) rfl
theorem q956 : (Jvm.Cond.selects "PlugHall" ({ cls := "PlugHall", name := "ran", desc := "(I)I" } : Jvm.MethodName) ({ cls := "PlugHall", name := "ran", desc := "(I)I" } : Jvm.MethodName)) ∈ lw_all := lw_g (lw_at lw_m4 141 rfl) rfl
theorem q957 : (Jvm.Cond.code ({ cls := "PlugHall", name := "ran", desc := "(I)I" } : Jvm.MethodName) prog_1_method_19_code (2 : Nat) (Option.some Jvm.ClassFile.FieldType.int)) ∈ lw_all := lw_g (lw_at lw_m4 142 rfl) rfl
theorem q958 : (Jvm.Cond.methodLink "PlugHallLaw" (86 : Nat) ({ cls := "PlugHall", name := "pass", desc := "(II)Z" } : Jvm.MethodName)) ∈ lw_all := lw_g (lw_at lw_m4 143 rfl) rfl
theorem q959 : (Jvm.Cond.instanceMethod ({ cls := "PlugHall", name := "pass", desc := "(II)Z" } : Jvm.MethodName)) ∈ lw_all := lw_g (lw_at lw_m4 144 rfl) rfl
theorem q960 : (Jvm.Cond.selects "PlugHall" ({ cls := "PlugHall", name := "pass", desc := "(II)Z" } : Jvm.MethodName) ({ cls := "PlugHall", name := "pass", desc := "(II)Z" } : Jvm.MethodName)) ∈ lw_all := lw_g (lw_at lw_m4 145 rfl) rfl
theorem q961 : (Jvm.Cond.code ({ cls := "PlugHall", name := "pass", desc := "(II)Z" } : Jvm.MethodName) prog_1_method_23_code (3 : Nat) (Option.some Jvm.ClassFile.FieldType.boolean)) ∈ lw_all := lw_g (lw_at lw_m4 146 rfl) rfl
theorem q962 : (Jvm.Cond.methodLink "PlugHall" (214 : Nat) ({ cls := "PlugHall", name := "sort", desc := "(LPlugHall$Box;I)V" } : Jvm.MethodName)) ∈ lw_all := lw_g (lw_at lw_m4 147 rfl) rfl
theorem q963 : (Jvm.Cond.static ({ cls := "PlugHall", name := "sort", desc := "(LPlugHall$Box;I)V" } : Jvm.MethodName)) ∈ lw_all := lw_g (lw_at lw_m4 148 rfl) rfl
theorem q964 : (Jvm.Cond.code ({ cls := "PlugHall", name := "sort", desc := "(LPlugHall$Box;I)V" } : Jvm.MethodName) prog_1_method_24_code (5 : Nat) (Option.none : Option Jvm.ClassFile.FieldType)) ∈ lw_all := lw_g (lw_at lw_m4 149 rfl) rfl
theorem q965 : (Jvm.Cond.methodLink "PlugHall" (218 : Nat) ({ cls := "PlugHall", name := "key", desc := "([BI)I" } : Jvm.MethodName)) ∈ lw_all := lw_g (lw_at lw_m4 150 rfl) rfl
theorem q966 : (Jvm.Cond.static ({ cls := "PlugHall", name := "key", desc := "([BI)I" } : Jvm.MethodName)) ∈ lw_all := lw_g (lw_at lw_m4 151 rfl) rfl
theorem q967 : (Jvm.Cond.code ({ cls := "PlugHall", name := "key", desc := "([BI)I" } : Jvm.MethodName) prog_1_method_22_code (2 : Nat) (Option.some Jvm.ClassFile.FieldType.int)) ∈ lw_all := lw_g (lw_at lw_m4 152 rfl) rfl
theorem q968 : (Jvm.Cond.methodLink "PlugHallLaw" (91 : Nat) ({ cls := "PlugHall", name := "idle", desc := "(I)I" } : Jvm.MethodName)) ∈ lw_all := lw_g (lw_at lw_m4 153 rfl) rfl
theorem q969 : (Jvm.Cond.instanceMethod ({ cls := "PlugHall", name := "idle", desc := "(I)I" } : Jvm.MethodName)) ∈ lw_all := lw_g (lw_at lw_m4 154 rfl) rfl
theorem q970 : (Jvm.Cond.selects "PlugHall" ({ cls := "PlugHall", name := "idle", desc := "(I)I" } : Jvm.MethodName) ({ cls := "PlugHall", name := "idle", desc := "(I)I" } : Jvm.MethodName)) ∈ lw_all := lw_g (lw_at lw_m4 155 rfl) rfl
theorem q971 : (Jvm.Cond.code ({ cls := "PlugHall", name := "idle", desc := "(I)I" } : Jvm.MethodName) prog_1_method_27_code (3 : Nat) (Option.some Jvm.ClassFile.FieldType.int)) ∈ lw_all := lw_g (lw_at lw_m4 156 rfl) rfl
theorem q972 : (Jvm.Cond.methodLink "PlugHall" (225 : Nat) ({ cls := "PlugHall", name := "runWithout", desc := "(LPlugHall$Box;ILPlugHall$Outcome;)V" } : Jvm.MethodName)) ∈ lw_all := lw_g (lw_at lw_m4 157 rfl) rfl
theorem q973 : (Jvm.Cond.privateMethod ({ cls := "PlugHall", name := "runWithout", desc := "(LPlugHall$Box;ILPlugHall$Outcome;)V" } : Jvm.MethodName)) ∈ lw_tbl := lw_at lw_m4 158 rfl
theorem q974 : (Jvm.Cond.instanceMethod ({ cls := "PlugHall", name := "runWithout", desc := "(LPlugHall$Box;ILPlugHall$Outcome;)V" } : Jvm.MethodName)) ∈ lw_all := lw_g (lw_at lw_m4 159 rfl) rfl
theorem q975 : (Jvm.Cond.code ({ cls := "PlugHall", name := "runWithout", desc := "(LPlugHall$Box;ILPlugHall$Outcome;)V" } : Jvm.MethodName) prog_1_method_26_code (4 : Nat) (Option.none : Option Jvm.ClassFile.FieldType)) ∈ lw_all := lw_g (lw_at lw_m4 160 rfl) rfl
theorem q976 : (Jvm.Cond.methodLink "PlugHall" (229 : Nat) ({ cls := "PlugHall$Outcome", name := "isLike", desc := "(LPlugHall$Outcome;)Z" } : Jvm.MethodName)) ∈ lw_all := lw_g (lw_at lw_m4 161 rfl) rfl
theorem q977 : (Jvm.Cond.instanceMethod ({ cls := "PlugHall$Outcome", name := "isLike", desc := "(LPlugHall$Outcome;)Z" } : Jvm.MethodName)) ∈ lw_all := lw_g (lw_at lw_m4 162 rfl) rfl
theorem q978 : (Jvm.Cond.selects "PlugHall$Outcome" ({ cls := "PlugHall$Outcome", name := "isLike", desc := "(LPlugHall$Outcome;)Z" } : Jvm.MethodName) ({ cls := "PlugHall$Outcome", name := "isLike", desc := "(LPlugHall$Outcome;)Z" } : Jvm.MethodName)) ∈ lw_all := lw_g (lw_at lw_m4 163 rfl) rfl
theorem q979 : (Jvm.Cond.code ({ cls := "PlugHall$Outcome", name := "isLike", desc := "(LPlugHall$Outcome;)Z" } : Jvm.MethodName) prog_9_method_4_code (4 : Nat) (Option.some Jvm.ClassFile.FieldType.boolean)) ∈ lw_all := lw_g (lw_at lw_m4 164 rfl) rfl
theorem q980 : (Jvm.Cond.methodLink "PlugHall$Outcome" (52 : Nat) ({ cls := "PlugHall$Outcome", name := "printsLike", desc := "(LPlugHall$Outcome;)Z" } : Jvm.MethodName)) ∈ lw_all := lw_g (lw_at lw_m4 165 rfl) rfl
theorem q981 : (Jvm.Cond.instanceMethod ({ cls := "PlugHall$Outcome", name := "printsLike", desc := "(LPlugHall$Outcome;)Z" } : Jvm.MethodName)) ∈ lw_all := lw_g (lw_at lw_m4 166 rfl) rfl
theorem q982 : (Jvm.Cond.selects "PlugHall$Outcome" ({ cls := "PlugHall$Outcome", name := "printsLike", desc := "(LPlugHall$Outcome;)Z" } : Jvm.MethodName) ({ cls := "PlugHall$Outcome", name := "printsLike", desc := "(LPlugHall$Outcome;)Z" } : Jvm.MethodName)) ∈ lw_all := lw_g (lw_at lw_m4 167 rfl) rfl
theorem q983 : (Jvm.Cond.code ({ cls := "PlugHall$Outcome", name := "printsLike", desc := "(LPlugHall$Outcome;)Z" } : Jvm.MethodName) prog_9_method_3_code (4 : Nat) (Option.some Jvm.ClassFile.FieldType.boolean)) ∈ lw_all := lw_g (lw_at lw_m4 168 rfl) rfl
theorem q984 : (Jvm.Cond.methodLink "PlugHall$Outcome" (48 : Nat) ({ cls := "PlugHall$Outcome", name := "isLike", desc := "([B[BI)Z" } : Jvm.MethodName)) ∈ lw_all := lw_g (lw_at lw_m4 169 rfl) rfl
theorem q985 : (Jvm.Cond.static ({ cls := "PlugHall$Outcome", name := "isLike", desc := "([B[BI)Z" } : Jvm.MethodName)) ∈ lw_all := lw_g (lw_at lw_m4 170 rfl) rfl
theorem q986 : (Jvm.Cond.code ({ cls := "PlugHall$Outcome", name := "isLike", desc := "([B[BI)Z" } : Jvm.MethodName) prog_9_method_5_code (4 : Nat) (Option.some Jvm.ClassFile.FieldType.boolean)) ∈ lw_all := lw_g (lw_at lw_m4 171 rfl) rfl
theorem q987 : (Jvm.Cond.methodLink "PlugHall" (233 : Nat) ({ cls := "PlugHall", name := "find", desc := "(I)V" } : Jvm.MethodName)) ∈ lw_all := lw_g (lw_at lw_m4 172 rfl) rfl
theorem q988 : (Jvm.Cond.privateMethod ({ cls := "PlugHall", name := "find", desc := "(I)V" } : Jvm.MethodName)) ∈ lw_tbl := lw_at lw_m4 173 rfl
theorem q989 : (Jvm.Cond.instanceMethod ({ cls := "PlugHall", name := "find", desc := "(I)V" } : Jvm.MethodName)) ∈ lw_all := lw_g (lw_at lw_m4 174 rfl) rfl
theorem q990 : (Jvm.Cond.code ({ cls := "PlugHall", name := "find", desc := "(I)V" } : Jvm.MethodName) prog_1_method_25_code (2 : Nat) (Option.none : Option Jvm.ClassFile.FieldType)) ∈ lw_all := lw_g (lw_at lw_m4 175 rfl) rfl
theorem q991 : (Jvm.Cond.methodLink "PlugHallLaw" (95 : Nat) ({ cls := "PlugHall", name := "missing", desc := "(I)I" } : Jvm.MethodName)) ∈ lw_all := lw_g (lw_at lw_m4 176 rfl) rfl
theorem q992 : (Jvm.Cond.instanceMethod ({ cls := "PlugHall", name := "missing", desc := "(I)I" } : Jvm.MethodName)) ∈ lw_all := lw_g (lw_at lw_m4 177 rfl) rfl
theorem q993 : (Jvm.Cond.selects "PlugHall" ({ cls := "PlugHall", name := "missing", desc := "(I)I" } : Jvm.MethodName) ({ cls := "PlugHall", name := "missing", desc := "(I)I" } : Jvm.MethodName)) ∈ lw_all := lw_g (lw_at lw_m4 178 rfl) rfl
theorem q994 : (Jvm.Cond.code ({ cls := "PlugHall", name := "missing", desc := "(I)I" } : Jvm.MethodName) prog_1_method_30_code (4 : Nat) (Option.some Jvm.ClassFile.FieldType.int)) ∈ lw_all := lw_g (lw_at lw_m4 179 rfl) rfl
theorem q995 : (Jvm.Cond.methodLink "PlugHall" (239 : Nat) ({ cls := "PlugHall", name := "areLines", desc := "(I)Z" } : Jvm.MethodName)) ∈ lw_all := lw_g (lw_at lw_m4 180 rfl) rfl
theorem q996 : (Jvm.Cond.privateMethod ({ cls := "PlugHall", name := "areLines", desc := "(I)Z" } : Jvm.MethodName)) ∈ lw_tbl := lw_at lw_m4 181 rfl
theorem q997 : (Jvm.Cond.instanceMethod ({ cls := "PlugHall", name := "areLines", desc := "(I)Z" } : Jvm.MethodName)) ∈ lw_all := lw_g (lw_at lw_m4 182 rfl) rfl
theorem q998 : (Jvm.Cond.code ({ cls := "PlugHall", name := "areLines", desc := "(I)Z" } : Jvm.MethodName) prog_1_method_28_code (3 : Nat) (Option.some Jvm.ClassFile.FieldType.boolean)) ∈ lw_all := lw_g (lw_at lw_m4 183 rfl) rfl
theorem q999 : (Jvm.Cond.methodLink "PlugHall" (242 : Nat) ({ cls := "PlugHall", name := "told", desc := "(I)V" } : Jvm.MethodName)) ∈ lw_all := lw_g (lw_at lw_m4 184 rfl) rfl
theorem q1000 : (Jvm.Cond.privateMethod ({ cls := "PlugHall", name := "told", desc := "(I)V" } : Jvm.MethodName)) ∈ lw_tbl := lw_at lw_m4 185 rfl
theorem q1001 : (Jvm.Cond.instanceMethod ({ cls := "PlugHall", name := "told", desc := "(I)V" } : Jvm.MethodName)) ∈ lw_all := lw_g (lw_at lw_m4 186 rfl) rfl
theorem q1002 : (Jvm.Cond.code ({ cls := "PlugHall", name := "told", desc := "(I)V" } : Jvm.MethodName) prog_1_method_29_code (3 : Nat) (Option.none : Option Jvm.ClassFile.FieldType)) ∈ lw_all := lw_g (lw_at lw_m4 187 rfl) rfl
theorem q1003 : (Jvm.Cond.methodLink "PlugHall" (236 : Nat) ({ cls := "PlugHall$Outcome", name := "begin", desc := "()V" } : Jvm.MethodName)) ∈ lw_all := lw_g (lw_at lw_m4 188 rfl) rfl
theorem q1004 : (Jvm.Cond.methodLink "PlugHall" (245 : Nat) ({ cls := "PlugHall$Outcome", name := "printsLike", desc := "(LPlugHall$Outcome;)Z" } : Jvm.MethodName)) ∈ lw_all := lw_g (lw_at lw_m4 189 rfl) rfl
theorem q1005 : (Jvm.Cond.methodLink "PlugHallLaw" (99 : Nat) ({ cls := "PlugHall", name := "wire", desc := "(I)I" } : Jvm.MethodName)) ∈ lw_all := lw_g (lw_at lw_m4 190 rfl) rfl
theorem q1006 : (Jvm.Cond.instanceMethod ({ cls := "PlugHall", name := "wire", desc := "(I)I" } : Jvm.MethodName)) ∈ lw_all := lw_g (lw_at lw_m4 191 rfl) rfl
theorem q1007 : (Jvm.Cond.selects "PlugHall" ({ cls := "PlugHall", name := "wire", desc := "(I)I" } : Jvm.MethodName) ({ cls := "PlugHall", name := "wire", desc := "(I)I" } : Jvm.MethodName)) ∈ lw_all := lw_g (lw_at lw_m4 192 rfl) rfl
theorem q1008 : (Jvm.Cond.code ({ cls := "PlugHall", name := "wire", desc := "(I)I" } : Jvm.MethodName) prog_1_method_31_code (2 : Nat) (Option.some Jvm.ClassFile.FieldType.int)) ∈ lw_all := lw_g (lw_at lw_m4 193 rfl) rfl
theorem q1009 : (Jvm.Cond.methodLink "PlugHallLaw" (103 : Nat) ({ cls := "PlugHall", name := "tests", desc := "(I)I" } : Jvm.MethodName)) ∈ lw_all := lw_g (lw_at lw_m4 194 rfl) rfl
theorem q1010 : (Jvm.Cond.instanceMethod ({ cls := "PlugHall", name := "tests", desc := "(I)I" } : Jvm.MethodName)) ∈ lw_all := lw_g (lw_at lw_m4 195 rfl) rfl
theorem q1011 : (Jvm.Cond.selects "PlugHall" ({ cls := "PlugHall", name := "tests", desc := "(I)I" } : Jvm.MethodName) ({ cls := "PlugHall", name := "tests", desc := "(I)I" } : Jvm.MethodName)) ∈ lw_all := lw_g (lw_at lw_m4 196 rfl) rfl
theorem q1012 : (Jvm.Cond.code ({ cls := "PlugHall", name := "tests", desc := "(I)I" } : Jvm.MethodName) prog_1_method_32_code (13 : Nat) (Option.some Jvm.ClassFile.FieldType.int)) ∈ lw_all := lw_g (lw_at lw_m4 197 rfl) rfl
theorem q1013 : (Jvm.Cond.methodLink "PlugHall" (248 : Nat) ({ cls := "java/lang/Math", name := "min", desc := "(II)I" } : Jvm.MethodName)) ∈ lw_all := lw_g (lw_at lw_m4 198 rfl) rfl
theorem q1014 : (Jvm.Cond.methodLink "PlugHall" (257 : Nat) ({ cls := "PlugHall", name := "bits", desc := "(J)I" } : Jvm.MethodName)) ∈ lw_all := lw_g (lw_at lw_m4 199 rfl) rfl
theorem q1015 : (Jvm.Cond.static ({ cls := "PlugHall", name := "bits", desc := "(J)I" } : Jvm.MethodName)) ∈ lw_all := lw_g (lw_at lw_m4 200 rfl) rfl
theorem q1016 : (Jvm.Cond.code ({ cls := "PlugHall", name := "bits", desc := "(J)I" } : Jvm.MethodName) prog_1_method_2_code (5 : Nat) (Option.some Jvm.ClassFile.FieldType.int)) ∈ lw_all := lw_g (lw_at lw_m4 201 rfl) rfl
theorem q1017 : (Jvm.Cond.arrayClass Jvm.ClassFile.FieldType.long) ∈ lw_all := lw_g (lw_at lw_m4 202 rfl) rfl
theorem q1018 : (Jvm.Cond.methodLink "PlugHallLaw" (107 : Nat) ({ cls := "PlugHall", name := "testSet", desc := "()I" } : Jvm.MethodName)) ∈ lw_all := lw_g (lw_at lw_m4 203 rfl) rfl
theorem q1019 : (Jvm.Cond.instanceMethod ({ cls := "PlugHall", name := "testSet", desc := "()I" } : Jvm.MethodName)) ∈ lw_all := lw_g (lw_at lw_m4 204 rfl) rfl
theorem q1020 : (Jvm.Cond.selects "PlugHall" ({ cls := "PlugHall", name := "testSet", desc := "()I" } : Jvm.MethodName) ({ cls := "PlugHall", name := "testSet", desc := "()I" } : Jvm.MethodName)) ∈ lw_all := lw_g (lw_at lw_m4 205 rfl) rfl
theorem q1021 : (Jvm.Cond.code ({ cls := "PlugHall", name := "testSet", desc := "()I" } : Jvm.MethodName) prog_1_method_33_code (1 : Nat) (Option.some Jvm.ClassFile.FieldType.int)) ∈ lw_all := lw_g (lw_at lw_m4 206 rfl) rfl
theorem q1022 : (Jvm.Cond.methodLink "PlugHallLaw" (111 : Nat) ({ cls := "PlugHall", name := "shown", desc := "()I" } : Jvm.MethodName)) ∈ lw_all := lw_g (lw_at lw_m4 207 rfl) rfl
theorem q1023 : (Jvm.Cond.instanceMethod ({ cls := "PlugHall", name := "shown", desc := "()I" } : Jvm.MethodName)) ∈ lw_all := lw_g (lw_at lw_m4 208 rfl) rfl
theorem q1024 : (Jvm.Cond.selects "PlugHall" ({ cls := "PlugHall", name := "shown", desc := "()I" } : Jvm.MethodName) ({ cls := "PlugHall", name := "shown", desc := "()I" } : Jvm.MethodName)) ∈ lw_all := lw_g (lw_at lw_m4 209 rfl) rfl
theorem q1025 : (Jvm.Cond.code ({ cls := "PlugHall", name := "shown", desc := "()I" } : Jvm.MethodName) prog_1_method_34_code (1 : Nat) (Option.some Jvm.ClassFile.FieldType.int)) ∈ lw_all := lw_g (lw_at lw_m4 210 rfl) rfl
theorem q1026 : (Jvm.Cond.methodLink "PlugHallLaw" (115 : Nat) ({ cls := "PlugHall", name := "job", desc := "()I" } : Jvm.MethodName)) ∈ lw_all := lw_g (lw_at lw_m4 211 rfl) rfl
theorem q1027 : (Jvm.Cond.instanceMethod ({ cls := "PlugHall", name := "job", desc := "()I" } : Jvm.MethodName)) ∈ lw_all := lw_g (lw_at lw_m4 212 rfl) rfl
theorem q1028 : (Jvm.Cond.selects "PlugHall" ({ cls := "PlugHall", name := "job", desc := "()I" } : Jvm.MethodName) ({ cls := "PlugHall", name := "job", desc := "()I" } : Jvm.MethodName)) ∈ lw_all := lw_g (lw_at lw_m4 213 rfl) rfl
theorem q1029 : (Jvm.Cond.codeWith ({ cls := "PlugHall", name := "job", desc := "()I" } : Jvm.MethodName) prog_1_method_35_code (3 : Nat) (Option.some Jvm.ClassFile.FieldType.int) [((10 : Nat), (40 : Nat), (41 : Nat), (165 : Nat))]) ∈ lw_all := lw_g (lw_at lw_m4 214 rfl) rfl
theorem q1030 : (Jvm.Cond.classLink "PlugHall" (264 : Nat) "PlugHall$JobReader") ∈ lw_all := lw_g (lw_at lw_m4 215 rfl) rfl
theorem q1031 : (Jvm.Cond.instantiable "PlugHall$JobReader" (10 : Nat)) ∈ lw_all := lw_g (lw_at lw_m4 216 rfl) rfl
theorem q1032 : (Jvm.Cond.methodLink "PlugHall" (266 : Nat) ({ cls := "PlugHall$JobReader", name := "<init>", desc := "([BI)V" } : Jvm.MethodName)) ∈ lw_all := lw_g (lw_at lw_m4 217 rfl) rfl
theorem q1033 : (Jvm.Cond.instanceMethod ({ cls := "PlugHall$JobReader", name := "<init>", desc := "([BI)V" } : Jvm.MethodName)) ∈ lw_all := lw_g (lw_at lw_m4 218 rfl) rfl
theorem q1034 : (Jvm.Cond.code ({ cls := "PlugHall$JobReader", name := "<init>", desc := "([BI)V" } : Jvm.MethodName) prog_6_method_1_code (3 : Nat) (Option.none : Option Jvm.ClassFile.FieldType)) ∈ lw_all := lw_g (lw_at lw_m4 219 rfl) rfl
theorem q1035 : (Jvm.Cond.methodLink "PlugHall$JobReader" (3 : Nat) ({ cls := "PlugHall$Tokens", name := "<init>", desc := "([BII)V" } : Jvm.MethodName)) ∈ lw_all := lw_g (lw_at lw_m4 220 rfl) rfl
theorem q1036 : (Jvm.Cond.classLink "PlugHall$JobReader" (9 : Nat) "PlugHall$Job") ∈ lw_all := lw_g (lw_at lw_m4 221 rfl) rfl
theorem q1037 : (Jvm.Cond.methodLinkNest "PlugHall$JobReader" (11 : Nat) ({ cls := "PlugHall$Job", name := "<init>", desc := "()V" } : Jvm.MethodName) "PlugHall") ∈ lw_tbl := lw_at lw_m4 222 rfl
theorem q1038 : (Jvm.Cond.fieldLink "PlugHall$JobReader" (14 : Nat) "PlugHall$JobReader" "job" "LPlugHall$Job;") ∈ lw_all := lw_g (lw_at lw_m4 223 rfl) rfl
theorem q1039 : (Jvm.Cond.laysFinal "PlugHall$JobReader" "PlugHall$JobReader" "job" "LPlugHall$Job;") ∈ lw_all := lw_g (lw_at lw_m4 224 rfl) rfl
theorem q1040 : (Jvm.Cond.soleField "PlugHall$JobReader" "job") ∈ lw_all := lw_g (lw_at lw_m4 225 rfl) rfl
theorem q1041 : (Jvm.Cond.laysFinal "PlugHall$JobReader" "PlugHall$Tokens" "tape" "[B") ∈ lw_all := lw_g (lw_at lw_m4 226 rfl) rfl
theorem q1042 : (Jvm.Cond.laysFinal "PlugHall$JobReader" "PlugHall$Tokens" "size" "I") ∈ lw_all := lw_g (lw_at lw_m4 227 rfl) rfl
theorem q1043 : (Jvm.Cond.laysFinal "PlugHall$JobReader" "PlugHall$Tokens" "limit" "I") ∈ lw_all := lw_g (lw_at lw_m4 228 rfl) rfl
theorem q1044 : (Jvm.Cond.lays "PlugHall$JobReader" "PlugHall$Tokens" "to" "I") ∈ lw_all := lw_g (lw_at lw_m4 229 rfl) rfl
theorem q1045 : (Jvm.Cond.lays "PlugHall$JobReader" "PlugHall$Tokens" "kind" "I") ∈ lw_all := lw_g (lw_at lw_m4 230 rfl) rfl
theorem q1046 : (Jvm.Cond.lays "PlugHall$JobReader" "PlugHall$Tokens" "from" "I") ∈ lw_all := lw_g (lw_at lw_m4 231 rfl) rfl
theorem q1047 : (Jvm.Cond.lays "PlugHall$JobReader" "PlugHall$Tokens" "number" "I") ∈ lw_all := lw_g (lw_at lw_m4 232 rfl) rfl
theorem q1048 : (Jvm.Cond.lays "PlugHall$JobReader" "PlugHall$Tokens" "sign" "I") ∈ lw_all := lw_g (lw_at lw_m4 233 rfl) rfl
theorem q1049 : (Jvm.Cond.lays "PlugHall$JobReader" "PlugHall$Tokens" "word" "Ljava/lang/String;") ∈ lw_all := lw_g (lw_at lw_m4 234 rfl) rfl
theorem q1050 : (Jvm.Cond.superclass "PlugHall$JobReader" "PlugHall$Tokens") ∈ lw_all := lw_g (lw_at lw_m4 235 rfl) rfl
theorem q1051 : (Jvm.Cond.methodLink "PlugHall" (267 : Nat) ({ cls := "PlugHall$JobReader", name := "read", desc := "()LPlugHall$Job;" } : Jvm.MethodName)) ∈ lw_all := lw_g (lw_at lw_m4 236 rfl) rfl
theorem q1052 : (Jvm.Cond.instanceMethod ({ cls := "PlugHall$JobReader", name := "read", desc := "()LPlugHall$Job;" } : Jvm.MethodName)) ∈ lw_all := lw_g (lw_at lw_m4 237 rfl) rfl
theorem q1053 : (Jvm.Cond.selects "PlugHall$JobReader" ({ cls := "PlugHall$JobReader", name := "read", desc := "()LPlugHall$Job;" } : Jvm.MethodName) ({ cls := "PlugHall$JobReader", name := "read", desc := "()LPlugHall$Job;" } : Jvm.MethodName)) ∈ lw_all := lw_g (lw_at lw_m4 238 rfl) rfl
theorem q1054 : (Jvm.Cond.code ({ cls := "PlugHall$JobReader", name := "read", desc := "()LPlugHall$Job;" } : Jvm.MethodName) prog_6_method_3_code (1 : Nat) (Option.some (Jvm.ClassFile.FieldType.object "PlugHall$Job"))) ∈ lw_all := lw_g (lw_at lw_m4 239 rfl) rfl
theorem q1055 : (Jvm.Cond.methodLink "PlugHall$JobReader" (49 : Nat) ({ cls := "PlugHall$JobReader", name := "go", desc := "()V" } : Jvm.MethodName)) ∈ lw_all := lw_g (lw_at lw_m5 0 rfl) rfl
theorem q1056 : (Jvm.Cond.sameMethod "PlugHall$JobReader" "PlugHall$Tokens" "go" "()V") ∈ lw_all := lw_g (lw_at lw_m5 1 rfl) rfl
theorem q1057 : (Jvm.Cond.selects "PlugHall$JobReader" ({ cls := "PlugHall$JobReader", name := "go", desc := "()V" } : Jvm.MethodName) ({ cls := "PlugHall$Tokens", name := "go", desc := "()V" } : Jvm.MethodName)) ∈ lw_all := lw_g (lw_at lw_m5 2 rfl) rfl
theorem q1058 : (Jvm.Cond.stringRef "PlugHall$JobReader" (52 : Nat) "field") ∈ lw_tbl := lw_at lw_m5 3 rfl
theorem q1059 : (Jvm.Cond.methodLink "PlugHall$JobReader" (54 : Nat) ({ cls := "PlugHall$JobReader", name := "is", desc := "(Ljava/lang/String;)Z" } : Jvm.MethodName)) ∈ lw_all := lw_g (lw_at lw_m5 4 rfl) rfl
theorem q1060 : (Jvm.Cond.sameMethod "PlugHall$JobReader" "PlugHall$Tokens" "is" "(Ljava/lang/String;)Z") ∈ lw_all := lw_g (lw_at lw_m5 5 rfl) rfl
theorem q1061 : (Jvm.Cond.declares ({ cls := "PlugHall$Tokens", name := "is", desc := "(Ljava/lang/String;)Z" } : Jvm.MethodName)) ∈ lw_tbl := lw_at lw_m5 6 rfl
theorem q1062 : (Jvm.Cond.selects "PlugHall$JobReader" ({ cls := "PlugHall$JobReader", name := "is", desc := "(Ljava/lang/String;)Z" } : Jvm.MethodName) ({ cls := "PlugHall$Tokens", name := "is", desc := "(Ljava/lang/String;)Z" } : Jvm.MethodName)) ∈ lw_all := lw_g (lw_at lw_m5 7 rfl) rfl
theorem q1063 : (Jvm.Cond.instanceMethod ({ cls := "PlugHall$Tokens", name := "is", desc := "(Ljava/lang/String;)Z" } : Jvm.MethodName)) ∈ lw_all := lw_g (lw_at lw_m5 8 rfl) rfl
theorem q1064 : (Jvm.Cond.code ({ cls := "PlugHall$Tokens", name := "is", desc := "(Ljava/lang/String;)Z" } : Jvm.MethodName) prog_12_method_9_code (2 : Nat) (Option.some Jvm.ClassFile.FieldType.boolean)) ∈ lw_all := lw_g (lw_at lw_m5 9 rfl) rfl
theorem q1065 : (Jvm.Cond.methodLink "PlugHall$Tokens" (74 : Nat) ({ cls := "java/lang/String", name := "equals", desc := "(Ljava/lang/Object;)Z" } : Jvm.MethodName)) ∈ lw_all := lw_g (lw_at lw_m5 10 rfl) rfl
theorem q1066 : (Jvm.Cond.stringRef "PlugHall$JobReader" (58 : Nat) "break") ∈ lw_tbl := lw_at lw_m5 11 rfl
theorem q1067 : (Jvm.Cond.stringRef "PlugHall$JobReader" (60 : Nat) "sum") ∈ lw_tbl := lw_at lw_m5 12 rfl
theorem q1068 : (Jvm.Cond.stringRef "PlugHall$JobReader" (62 : Nat) "count") ∈ lw_tbl := lw_at lw_m5 13 rfl
theorem q1069 : (Jvm.Cond.methodLink "PlugHall$JobReader" (64 : Nat) ({ cls := "PlugHall$JobReader", name := "need", desc := "(ZI)V" } : Jvm.MethodName)) ∈ lw_all := lw_g (lw_at lw_m5 14 rfl) rfl
theorem q1070 : (Jvm.Cond.sameMethod "PlugHall$JobReader" "PlugHall$Tokens" "need" "(ZI)V") ∈ lw_all := lw_g (lw_at lw_m5 15 rfl) rfl
theorem q1071 : (Jvm.Cond.selects "PlugHall$JobReader" ({ cls := "PlugHall$JobReader", name := "need", desc := "(ZI)V" } : Jvm.MethodName) ({ cls := "PlugHall$Tokens", name := "need", desc := "(ZI)V" } : Jvm.MethodName)) ∈ lw_all := lw_g (lw_at lw_m5 16 rfl) rfl
theorem q1072 : (Jvm.Cond.methodLink "PlugHall$JobReader" (68 : Nat) ({ cls := "PlugHall$JobReader", name := "field", desc := "()V" } : Jvm.MethodName)) ∈ lw_all := lw_g (lw_at lw_m5 17 rfl) rfl
theorem q1073 : (Jvm.Cond.privateMethod ({ cls := "PlugHall$JobReader", name := "field", desc := "()V" } : Jvm.MethodName)) ∈ lw_tbl := lw_at lw_m5 18 rfl
theorem q1074 : (Jvm.Cond.instanceMethod ({ cls := "PlugHall$JobReader", name := "field", desc := "()V" } : Jvm.MethodName)) ∈ lw_all := lw_g (lw_at lw_m5 19 rfl) rfl
theorem q1075 : (Jvm.Cond.code ({ cls := "PlugHall$JobReader", name := "field", desc := "()V" } : Jvm.MethodName) prog_6_method_4_code (4 : Nat) (Option.none : Option Jvm.ClassFile.FieldType)) ∈ lw_all := lw_g (lw_at lw_m5 20 rfl) rfl
theorem q1076 : (Jvm.Cond.methodLink "PlugHall$JobReader" (84 : Nat) ({ cls := "PlugHall$JobReader", name := "isName", desc := "()Z" } : Jvm.MethodName)) ∈ lw_all := lw_g (lw_at lw_m5 21 rfl) rfl
theorem q1077 : (Jvm.Cond.privateMethod ({ cls := "PlugHall$JobReader", name := "isName", desc := "()Z" } : Jvm.MethodName)) ∈ lw_tbl := lw_at lw_m5 22 rfl
theorem q1078 : (Jvm.Cond.instanceMethod ({ cls := "PlugHall$JobReader", name := "isName", desc := "()Z" } : Jvm.MethodName)) ∈ lw_all := lw_g (lw_at lw_m5 23 rfl) rfl
theorem q1079 : (Jvm.Cond.code ({ cls := "PlugHall$JobReader", name := "isName", desc := "()Z" } : Jvm.MethodName) prog_6_method_2_code (1 : Nat) (Option.some Jvm.ClassFile.FieldType.boolean)) ∈ lw_all := lw_g (lw_at lw_m5 24 rfl) rfl
theorem q1080 : (Jvm.Cond.stringRef "PlugHall$JobReader" (24 : Nat) " field break sum count over ") ∈ lw_tbl := lw_at lw_m5 25 rfl
theorem q1081 : (Jvm.Cond.classLink "PlugHall$JobReader" (26 : Nat) "java/lang/StringBuilder") ∈ lw_all := lw_g (lw_at lw_m5 26 rfl) rfl
theorem q1082 : (Jvm.Cond.methodLink "PlugHall$JobReader" (28 : Nat) ({ cls := "java/lang/StringBuilder", name := "<init>", desc := "()V" } : Jvm.MethodName)) ∈ lw_all := lw_g (lw_at lw_m5 27 rfl) rfl
theorem q1083 : (Jvm.Cond.stringRef "PlugHall$JobReader" (29 : Nat) " ") ∈ lw_tbl := lw_at lw_m5 28 rfl
theorem q1084 : (Jvm.Cond.methodLink "PlugHall$JobReader" (31 : Nat) ({ cls := "java/lang/StringBuilder", name := "append", desc := "(Ljava/lang/String;)Ljava/lang/StringBuilder;" } : Jvm.MethodName)) ∈ lw_all := lw_g (lw_at lw_m5 29 rfl) rfl
theorem q1085 : (Jvm.Cond.instanceMethod ({ cls := "java/lang/StringBuilder", name := "append", desc := "(Ljava/lang/String;)Ljava/lang/StringBuilder;" } : Jvm.MethodName)) ∈ lw_all := lw_g (lw_at lw_m5 30 rfl) rfl
theorem q1086 : (Jvm.Cond.selects "java/lang/StringBuilder" ({ cls := "java/lang/StringBuilder", name := "append", desc := "(Ljava/lang/String;)Ljava/lang/StringBuilder;" } : Jvm.MethodName) ({ cls := "java/lang/StringBuilder", name := "append", desc := "(Ljava/lang/String;)Ljava/lang/StringBuilder;" } : Jvm.MethodName)) ∈ lw_all := lw_g (lw_at lw_m5 31 rfl) rfl
theorem q1087 : (Jvm.Cond.code ({ cls := "java/lang/StringBuilder", name := "append", desc := "(Ljava/lang/String;)Ljava/lang/StringBuilder;" } : Jvm.MethodName) prog_22_method_7_code (2 : Nat) (Option.some (Jvm.ClassFile.FieldType.object "java/lang/StringBuilder"))) ∈ lw_all := lw_g (lw_at lw_m5 32 rfl) rfl
theorem q1088 : (Jvm.Cond.methodLink "java/lang/StringBuilder" (29 : Nat) ({ cls := "java/lang/AbstractStringBuilder", name := "append", desc := "(Ljava/lang/String;)Ljava/lang/AbstractStringBuilder;" } : Jvm.MethodName)) ∈ lw_all := lw_g (lw_at lw_m5 33 rfl) rfl
theorem q1089 : (Jvm.Cond.instanceMethod ({ cls := "java/lang/AbstractStringBuilder", name := "append", desc := "(Ljava/lang/String;)Ljava/lang/AbstractStringBuilder;" } : Jvm.MethodName)) ∈ lw_all := lw_g (lw_at lw_m5 34 rfl) rfl
theorem q1090 : (Jvm.Cond.code ({ cls := "java/lang/AbstractStringBuilder", name := "append", desc := "(Ljava/lang/String;)Ljava/lang/AbstractStringBuilder;" } : Jvm.MethodName) prog_15_method_22_code (3 : Nat) (Option.some (Jvm.ClassFile.FieldType.object "java/lang/AbstractStringBuilder"))) ∈ lw_all := lw_g (lw_at lw_m5 35 rfl) rfl
theorem q1091 : (Jvm.Cond.methodLink "java/lang/AbstractStringBuilder" (204 : Nat) ({ cls := "java/lang/AbstractStringBuilder", name := "appendNull", desc := "()Ljava/lang/AbstractStringBuilder;" } : Jvm.MethodName)) ∈ lw_all := lw_g (lw_at lw_m5 36 rfl) rfl
theorem q1092 : (Jvm.Cond.privateMethod ({ cls := "java/lang/AbstractStringBuilder", name := "appendNull", desc := "()Ljava/lang/AbstractStringBuilder;" } : Jvm.MethodName)) ∈ lw_tbl := lw_at lw_m5 37 rfl
theorem q1093 : (Jvm.Cond.instanceMethod ({ cls := "java/lang/AbstractStringBuilder", name := "appendNull", desc := "()Ljava/lang/AbstractStringBuilder;" } : Jvm.MethodName)) ∈ lw_all := lw_g (lw_at lw_m5 38 rfl) rfl
theorem q1094 : (Jvm.Cond.code ({ cls := "java/lang/AbstractStringBuilder", name := "appendNull", desc := "()Ljava/lang/AbstractStringBuilder;" } : Jvm.MethodName) prog_15_method_26_code (3 : Nat) (Option.some (Jvm.ClassFile.FieldType.object "java/lang/AbstractStringBuilder"))) ∈ lw_all := lw_g (lw_at lw_m5 39 rfl) rfl
theorem q1095 : (Jvm.Cond.methodLink "java/lang/AbstractStringBuilder" (226 : Nat) ({ cls := "java/lang/StringUTF16", name := "putCharsAt", desc := "([BICCCC)I" } : Jvm.MethodName)) ∈ lw_all := lw_g (lw_at lw_m5 40 rfl) rfl
theorem q1096 : (Jvm.Cond.static ({ cls := "java/lang/StringUTF16", name := "putCharsAt", desc := "([BICCCC)I" } : Jvm.MethodName)) ∈ lw_all := lw_g (lw_at lw_m5 41 rfl) rfl
theorem q1097 : (Jvm.Cond.code ({ cls := "java/lang/StringUTF16", name := "putCharsAt", desc := "([BICCCC)I" } : Jvm.MethodName) prog_24_method_81_code (7 : Nat) (Option.some Jvm.ClassFile.FieldType.int)) ∈ lw_all := lw_g (lw_at lw_m5 42 rfl) rfl
theorem q1098 : (Jvm.Cond.methodLink "java/lang/StringUTF16" (96 : Nat) ({ cls := "java/lang/StringUTF16", name := "checkBoundsBeginEnd", desc := "(II[B)V" } : Jvm.MethodName)) ∈ lw_all := lw_g (lw_at lw_m5 43 rfl) rfl
theorem q1099 : (Jvm.Cond.static ({ cls := "java/lang/StringUTF16", name := "checkBoundsBeginEnd", desc := "(II[B)V" } : Jvm.MethodName)) ∈ lw_all := lw_g (lw_at lw_m5 44 rfl) rfl
theorem q1100 : (Jvm.Cond.code ({ cls := "java/lang/StringUTF16", name := "checkBoundsBeginEnd", desc := "(II[B)V" } : Jvm.MethodName) prog_24_method_93_code (3 : Nat) (Option.none : Option Jvm.ClassFile.FieldType)) ∈ lw_all := lw_g (lw_at lw_m5 45 rfl) rfl
theorem q1101 : (Jvm.Cond.methodLink "java/lang/StringUTF16" (241 : Nat) ({ cls := "java/lang/String", name := "checkBoundsBeginEnd", desc := "(III)V" } : Jvm.MethodName)) ∈ lw_all := lw_g (lw_at lw_m5 46 rfl) rfl
theorem q1102 : (Jvm.Cond.static ({ cls := "java/lang/String", name := "checkBoundsBeginEnd", desc := "(III)V" } : Jvm.MethodName)) ∈ lw_all := lw_g (lw_at lw_m5 47 rfl) rfl
theorem q1103 : (Jvm.Cond.code ({ cls := "java/lang/String", name := "checkBoundsBeginEnd", desc := "(III)V" } : Jvm.MethodName) prog_21_method_158_code (3 : Nat) (Option.none : Option Jvm.ClassFile.FieldType)) ∈ lw_all := lw_g (lw_at lw_m5 48 rfl) rfl
theorem q1104 : (Jvm.Cond.methodLink "java/lang/String" (1062 : Nat) ({ cls := "jdk/internal/util/Preconditions", name := "checkFromToIndex", desc := "(IIILjava/util/function/BiFunction;)I" } : Jvm.MethodName)) ∈ lw_all := lw_g (lw_at lw_m5 49 rfl) rfl
theorem q1105 : (Jvm.Cond.static ({ cls := "jdk/internal/util/Preconditions", name := "checkFromToIndex", desc := "(IIILjava/util/function/BiFunction;)I" } : Jvm.MethodName)) ∈ lw_all := lw_g (lw_at lw_m5 50 rfl) rfl
theorem q1106 : (Jvm.Cond.code ({ cls := "jdk/internal/util/Preconditions", name := "checkFromToIndex", desc := "(IIILjava/util/function/BiFunction;)I" } : Jvm.MethodName) prog_30_method_12_code (4 : Nat) (Option.some Jvm.ClassFile.FieldType.int)) ∈ lw_all := lw_g (lw_at lw_m5 51 rfl) rfl
theorem q1107 : (Jvm.Cond.methodLink "java/lang/AbstractStringBuilder" (32 : Nat) ({ cls := "java/lang/String", name := "length", desc := "()I" } : Jvm.MethodName)) ∈ lw_all := lw_g (lw_at lw_m5 52 rfl) rfl
theorem q1108 : (Jvm.Cond.instanceMethod ({ cls := "java/lang/String", name := "length", desc := "()I" } : Jvm.MethodName)) ∈ lw_all := lw_g (lw_at lw_m5 53 rfl) rfl
theorem q1109 : (Jvm.Cond.selects "java/lang/String" ({ cls := "java/lang/String", name := "length", desc := "()I" } : Jvm.MethodName) ({ cls := "java/lang/String", name := "length", desc := "()I" } : Jvm.MethodName)) ∈ lw_all := lw_g (lw_at lw_m5 54 rfl) rfl
theorem q1110 : (Jvm.Cond.code ({ cls := "java/lang/String", name := "length", desc := "()I" } : Jvm.MethodName) prog_21_method_54_code (1 : Nat) (Option.some Jvm.ClassFile.FieldType.int)) ∈ lw_all := lw_g (lw_at lw_m5 55 rfl) rfl
theorem q1111 : (Jvm.Cond.methodLink "java/lang/String" (335 : Nat) ({ cls := "java/lang/String", name := "coder", desc := "()B" } : Jvm.MethodName)) ∈ lw_all := lw_g (lw_at lw_m5 56 rfl) rfl
theorem q1112 : (Jvm.Cond.instanceMethod ({ cls := "java/lang/String", name := "coder", desc := "()B" } : Jvm.MethodName)) ∈ lw_all := lw_g (lw_at lw_m5 57 rfl) rfl
theorem q1113 : (Jvm.Cond.selects "java/lang/String" ({ cls := "java/lang/String", name := "coder", desc := "()B" } : Jvm.MethodName) ({ cls := "java/lang/String", name := "coder", desc := "()B" } : Jvm.MethodName)) ∈ lw_all := lw_g (lw_at lw_m5 58 rfl) rfl
theorem q1114 : (Jvm.Cond.code ({ cls := "java/lang/String", name := "coder", desc := "()B" } : Jvm.MethodName) prog_21_method_152_code (1 : Nat) (Option.some Jvm.ClassFile.FieldType.byte)) ∈ lw_all := lw_g (lw_at lw_m5 59 rfl) rfl
theorem q1115 : (Jvm.Cond.methodLink "java/lang/AbstractStringBuilder" (208 : Nat) ({ cls := "java/lang/AbstractStringBuilder", name := "putStringAt", desc := "(ILjava/lang/String;)V" } : Jvm.MethodName)) ∈ lw_all := lw_g (lw_at lw_m5 60 rfl) rfl
theorem q1116 : (Jvm.Cond.privateMethod ({ cls := "java/lang/AbstractStringBuilder", name := "putStringAt", desc := "(ILjava/lang/String;)V" } : Jvm.MethodName)) ∈ lw_tbl := lw_at lw_m5 61 rfl
theorem q1117 : (Jvm.Cond.instanceMethod ({ cls := "java/lang/AbstractStringBuilder", name := "putStringAt", desc := "(ILjava/lang/String;)V" } : Jvm.MethodName)) ∈ lw_all := lw_g (lw_at lw_m5 62 rfl) rfl
theorem q1118 : (Jvm.Cond.code ({ cls := "java/lang/AbstractStringBuilder", name := "putStringAt", desc := "(ILjava/lang/String;)V" } : Jvm.MethodName) prog_15_method_73_code (3 : Nat) (Option.none : Option Jvm.ClassFile.FieldType)) ∈ lw_all := lw_g (lw_at lw_m5 63 rfl) rfl
theorem q1119 : (Jvm.Cond.methodLink "java/lang/AbstractStringBuilder" (397 : Nat) ({ cls := "java/lang/AbstractStringBuilder", name := "inflateIfNeededFor", desc := "(Ljava/lang/String;)V" } : Jvm.MethodName)) ∈ lw_all := lw_g (lw_at lw_m5 64 rfl) rfl
theorem q1120 : (Jvm.Cond.privateMethod ({ cls := "java/lang/AbstractStringBuilder", name := "inflateIfNeededFor", desc := "(Ljava/lang/String;)V" } : Jvm.MethodName)) ∈ lw_tbl := lw_at lw_m5 65 rfl
theorem q1121 : (Jvm.Cond.instanceMethod ({ cls := "java/lang/AbstractStringBuilder", name := "inflateIfNeededFor", desc := "(Ljava/lang/String;)V" } : Jvm.MethodName)) ∈ lw_all := lw_g (lw_at lw_m5 66 rfl) rfl
theorem q1122 : (Jvm.Cond.code ({ cls := "java/lang/AbstractStringBuilder", name := "inflateIfNeededFor", desc := "(Ljava/lang/String;)V" } : Jvm.MethodName) prog_15_method_71_code (2 : Nat) (Option.none : Option Jvm.ClassFile.FieldType)) ∈ lw_all := lw_g (lw_at lw_m5 67 rfl) rfl
theorem q1123 : (Jvm.Cond.methodLink "java/lang/AbstractStringBuilder" (40 : Nat) ({ cls := "java/lang/String", name := "coder", desc := "()B" } : Jvm.MethodName)) ∈ lw_all := lw_g (lw_at lw_m5 68 rfl) rfl
theorem q1124 : (Jvm.Cond.methodLink "java/lang/AbstractStringBuilder" (399 : Nat) ({ cls := "java/lang/String", name := "getBytes", desc := "([BIB)V" } : Jvm.MethodName)) ∈ lw_all := lw_g (lw_at lw_m5 69 rfl) rfl
theorem q1125 : (Jvm.Cond.instanceMethod ({ cls := "java/lang/String", name := "getBytes", desc := "([BIB)V" } : Jvm.MethodName)) ∈ lw_all := lw_g (lw_at lw_m5 70 rfl) rfl
theorem q1126 : (Jvm.Cond.selects "java/lang/String" ({ cls := "java/lang/String", name := "getBytes", desc := "([BIB)V" } : Jvm.MethodName) ({ cls := "java/lang/String", name := "getBytes", desc := "([BIB)V" } : Jvm.MethodName)) ∈ lw_all := lw_g (lw_at lw_m5 71 rfl) rfl
theorem q1127 : (Jvm.Cond.code ({ cls := "java/lang/String", name := "getBytes", desc := "([BIB)V" } : Jvm.MethodName) prog_21_method_147_code (4 : Nat) (Option.none : Option Jvm.ClassFile.FieldType)) ∈ lw_all := lw_g (lw_at lw_m5 72 rfl) rfl
theorem q1128 : (Jvm.Cond.methodLink "java/lang/String" (212 : Nat) ({ cls := "java/lang/System", name := "arraycopy", desc := "(Ljava/lang/Object;ILjava/lang/Object;II)V" } : Jvm.MethodName)) ∈ lw_all := lw_g (lw_at lw_m5 73 rfl) rfl
theorem q1129 : (Jvm.Cond.methodLink "java/lang/String" (106 : Nat) ({ cls := "java/lang/StringLatin1", name := "inflate", desc := "([BI[BII)V" } : Jvm.MethodName)) ∈ lw_all := lw_g (lw_at lw_m5 74 rfl) rfl
theorem q1130 : (Jvm.Cond.methodLink "PlugHall$JobReader" (39 : Nat) ({ cls := "java/lang/StringBuilder", name := "toString", desc := "()Ljava/lang/String;" } : Jvm.MethodName)) ∈ lw_all := lw_g (lw_at lw_m5 75 rfl) rfl
theorem q1131 : (Jvm.Cond.methodLink "PlugHall$JobReader" (43 : Nat) ({ cls := "java/lang/String", name := "indexOf", desc := "(Ljava/lang/String;)I" } : Jvm.MethodName)) ∈ lw_all := lw_g (lw_at lw_m5 76 rfl) rfl
theorem q1132 : (Jvm.Cond.instanceMethod ({ cls := "java/lang/String", name := "indexOf", desc := "(Ljava/lang/String;)I" } : Jvm.MethodName)) ∈ lw_all := lw_g (lw_at lw_m5 77 rfl) rfl
theorem q1133 : (Jvm.Cond.selects "java/lang/String" ({ cls := "java/lang/String", name := "indexOf", desc := "(Ljava/lang/String;)I" } : Jvm.MethodName) ({ cls := "java/lang/String", name := "indexOf", desc := "(Ljava/lang/String;)I" } : Jvm.MethodName)) ∈ lw_all := lw_g (lw_at lw_m5 78 rfl) rfl
theorem q1134 : (Jvm.Cond.code ({ cls := "java/lang/String", name := "indexOf", desc := "(Ljava/lang/String;)I" } : Jvm.MethodName) prog_21_method_84_code (3 : Nat) (Option.some Jvm.ClassFile.FieldType.int)) ∈ lw_all := lw_g (lw_at lw_m5 79 rfl) rfl
theorem q1135 : (Jvm.Cond.methodLink "java/lang/String" (492 : Nat) ({ cls := "java/lang/String", name := "isLatin1", desc := "()Z" } : Jvm.MethodName)) ∈ lw_all := lw_g (lw_at lw_m5 80 rfl) rfl
theorem q1136 : (Jvm.Cond.instanceMethod ({ cls := "java/lang/String", name := "isLatin1", desc := "()Z" } : Jvm.MethodName)) ∈ lw_all := lw_g (lw_at lw_m5 81 rfl) rfl
theorem q1137 : (Jvm.Cond.selects "java/lang/String" ({ cls := "java/lang/String", name := "isLatin1", desc := "()Z" } : Jvm.MethodName) ({ cls := "java/lang/String", name := "isLatin1", desc := "()Z" } : Jvm.MethodName)) ∈ lw_all := lw_g (lw_at lw_m5 82 rfl) rfl
theorem q1138 : (Jvm.Cond.code ({ cls := "java/lang/String", name := "isLatin1", desc := "()Z" } : Jvm.MethodName) prog_21_method_154_code (1 : Nat) (Option.some Jvm.ClassFile.FieldType.boolean)) ∈ lw_all := lw_g (lw_at lw_m5 83 rfl) rfl
theorem q1139 : (Jvm.Cond.methodLink "java/lang/String" (647 : Nat) ({ cls := "java/lang/StringLatin1", name := "indexOf", desc := "([B[B)I" } : Jvm.MethodName)) ∈ lw_all := lw_g (lw_at lw_m5 84 rfl) rfl
theorem q1140 : (Jvm.Cond.static ({ cls := "java/lang/StringLatin1", name := "indexOf", desc := "([B[B)I" } : Jvm.MethodName)) ∈ lw_all := lw_g (lw_at lw_m5 85 rfl) rfl
theorem q1141 : (Jvm.Cond.code ({ cls := "java/lang/StringLatin1", name := "indexOf", desc := "([B[B)I" } : Jvm.MethodName) prog_23_method_24_code (2 : Nat) (Option.some Jvm.ClassFile.FieldType.int)) ∈ lw_all := lw_g (lw_at lw_m5 86 rfl) rfl
theorem q1142 : (Jvm.Cond.methodLink "java/lang/StringLatin1" (99 : Nat) ({ cls := "java/lang/StringLatin1", name := "indexOf", desc := "([BI[BII)I" } : Jvm.MethodName)) ∈ lw_all := lw_g (lw_at lw_m5 87 rfl) rfl
theorem q1143 : (Jvm.Cond.static ({ cls := "java/lang/StringLatin1", name := "indexOf", desc := "([BI[BII)I" } : Jvm.MethodName)) ∈ lw_all := lw_g (lw_at lw_m5 88 rfl) rfl
theorem q1144 : (Jvm.Cond.code ({ cls := "java/lang/StringLatin1", name := "indexOf", desc := "([BI[BII)I" } : Jvm.MethodName) prog_23_method_25_code (11 : Nat) (Option.some Jvm.ClassFile.FieldType.int)) ∈ lw_all := lw_g (lw_at lw_m5 89 rfl) rfl
theorem q1145 : (Jvm.Cond.methodLink "java/lang/String" (649 : Nat) ({ cls := "java/lang/StringUTF16", name := "indexOf", desc := "([B[B)I" } : Jvm.MethodName)) ∈ lw_all := lw_g (lw_at lw_m5 90 rfl) rfl
theorem q1146 : (Jvm.Cond.static ({ cls := "java/lang/StringUTF16", name := "indexOf", desc := "([B[B)I" } : Jvm.MethodName)) ∈ lw_all := lw_g (lw_at lw_m5 91 rfl) rfl
theorem q1147 : (Jvm.Cond.code ({ cls := "java/lang/StringUTF16", name := "indexOf", desc := "([B[B)I" } : Jvm.MethodName) prog_24_method_41_code (2 : Nat) (Option.some Jvm.ClassFile.FieldType.int)) ∈ lw_all := lw_g (lw_at lw_m5 92 rfl) rfl
theorem q1148 : (Jvm.Cond.methodLink "java/lang/StringUTF16" (235 : Nat) ({ cls := "java/lang/StringUTF16", name := "indexOfUnsafe", desc := "([BI[BII)I" } : Jvm.MethodName)) ∈ lw_all := lw_g (lw_at lw_m5 93 rfl) rfl
theorem q1149 : (Jvm.Cond.static ({ cls := "java/lang/StringUTF16", name := "indexOfUnsafe", desc := "([BI[BII)I" } : Jvm.MethodName)) ∈ lw_all := lw_g (lw_at lw_m5 94 rfl) rfl
theorem q1150 : (Jvm.Cond.code ({ cls := "java/lang/StringUTF16", name := "indexOfUnsafe", desc := "([BI[BII)I" } : Jvm.MethodName) prog_24_method_43_code (11 : Nat) (Option.some Jvm.ClassFile.FieldType.int)) ∈ lw_all := lw_g (lw_at lw_m5 95 rfl) rfl
theorem q1151 : (Jvm.Cond.methodLink "java/lang/String" (650 : Nat) ({ cls := "java/lang/StringUTF16", name := "indexOfLatin1", desc := "([B[B)I" } : Jvm.MethodName)) ∈ lw_all := lw_g (lw_at lw_m5 96 rfl) rfl
theorem q1152 : (Jvm.Cond.static ({ cls := "java/lang/StringUTF16", name := "indexOfLatin1", desc := "([B[B)I" } : Jvm.MethodName)) ∈ lw_all := lw_g (lw_at lw_m5 97 rfl) rfl
theorem q1153 : (Jvm.Cond.code ({ cls := "java/lang/StringUTF16", name := "indexOfLatin1", desc := "([B[B)I" } : Jvm.MethodName) prog_24_method_44_code (2 : Nat) (Option.some Jvm.ClassFile.FieldType.int)) ∈ lw_all := lw_g (lw_at lw_m5 98 rfl) rfl
theorem q1154 : (Jvm.Cond.methodLink "java/lang/StringUTF16" (238 : Nat) ({ cls := "java/lang/StringUTF16", name := "indexOfLatin1Unsafe", desc := "([BI[BII)I" } : Jvm.MethodName)) ∈ lw_all := lw_g (lw_at lw_m5 99 rfl) rfl
theorem q1155 : (Jvm.Cond.static ({ cls := "java/lang/StringUTF16", name := "indexOfLatin1Unsafe", desc := "([BI[BII)I" } : Jvm.MethodName)) ∈ lw_all := lw_g (lw_at lw_m5 100 rfl) rfl
theorem q1156 : (Jvm.Cond.code ({ cls := "java/lang/StringUTF16", name := "indexOfLatin1Unsafe", desc := "([BI[BII)I" } : Jvm.MethodName) prog_24_method_46_code (11 : Nat) (Option.some Jvm.ClassFile.FieldType.int)) ∈ lw_all := lw_g (lw_at lw_m5 101 rfl) rfl
theorem q1157 : (Jvm.Cond.methodLink "PlugHall$JobReader" (88 : Nat) ({ cls := "PlugHall$Job", name := "find", desc := "(Ljava/lang/String;)I" } : Jvm.MethodName)) ∈ lw_all := lw_g (lw_at lw_m5 102 rfl) rfl
theorem q1158 : (Jvm.Cond.instanceMethod ({ cls := "PlugHall$Job", name := "find", desc := "(Ljava/lang/String;)I" } : Jvm.MethodName)) ∈ lw_all := lw_g (lw_at lw_m5 103 rfl) rfl
theorem q1159 : (Jvm.Cond.selects "PlugHall$Job" ({ cls := "PlugHall$Job", name := "find", desc := "(Ljava/lang/String;)I" } : Jvm.MethodName) ({ cls := "PlugHall$Job", name := "find", desc := "(Ljava/lang/String;)I" } : Jvm.MethodName)) ∈ lw_all := lw_g (lw_at lw_m5 104 rfl) rfl
theorem q1160 : (Jvm.Cond.code ({ cls := "PlugHall$Job", name := "find", desc := "(Ljava/lang/String;)I" } : Jvm.MethodName) prog_5_method_2_code (3 : Nat) (Option.some Jvm.ClassFile.FieldType.int)) ∈ lw_all := lw_g (lw_at lw_m5 105 rfl) rfl
theorem q1161 : (Jvm.Cond.methodLink "PlugHall$Job" (43 : Nat) ({ cls := "java/lang/String", name := "equals", desc := "(Ljava/lang/Object;)Z" } : Jvm.MethodName)) ∈ lw_all := lw_g (lw_at lw_m5 106 rfl) rfl
theorem q1162 : (Jvm.Cond.methodLink "PlugHall$JobReader" (91 : Nat) ({ cls := "PlugHall$JobReader", name := "number", desc := "(II)I" } : Jvm.MethodName)) ∈ lw_all := lw_g (lw_at lw_m5 107 rfl) rfl
theorem q1163 : (Jvm.Cond.sameMethod "PlugHall$JobReader" "PlugHall$Tokens" "number" "(II)I") ∈ lw_all := lw_g (lw_at lw_m5 108 rfl) rfl
theorem q1164 : (Jvm.Cond.selects "PlugHall$JobReader" ({ cls := "PlugHall$JobReader", name := "number", desc := "(II)I" } : Jvm.MethodName) ({ cls := "PlugHall$Tokens", name := "number", desc := "(II)I" } : Jvm.MethodName)) ∈ lw_all := lw_g (lw_at lw_m5 109 rfl) rfl
theorem q1165 : (Jvm.Cond.methodLink "PlugHall$JobReader" (95 : Nat) ({ cls := "java/lang/Math", name := "min", desc := "(II)I" } : Jvm.MethodName)) ∈ lw_all := lw_g (lw_at lw_m5 110 rfl) rfl
theorem q1166 : (Jvm.Cond.methodLink "PlugHall$JobReader" (70 : Nat) ({ cls := "PlugHall$JobReader", name := "breaks", desc := "()V" } : Jvm.MethodName)) ∈ lw_all := lw_g (lw_at lw_m5 111 rfl) rfl
theorem q1167 : (Jvm.Cond.privateMethod ({ cls := "PlugHall$JobReader", name := "breaks", desc := "()V" } : Jvm.MethodName)) ∈ lw_tbl := lw_at lw_m5 112 rfl
theorem q1168 : (Jvm.Cond.instanceMethod ({ cls := "PlugHall$JobReader", name := "breaks", desc := "()V" } : Jvm.MethodName)) ∈ lw_all := lw_g (lw_at lw_m5 113 rfl) rfl
theorem q1169 : (Jvm.Cond.code ({ cls := "PlugHall$JobReader", name := "breaks", desc := "()V" } : Jvm.MethodName) prog_6_method_5_code (2 : Nat) (Option.none : Option Jvm.ClassFile.FieldType)) ∈ lw_all := lw_g (lw_at lw_m5 114 rfl) rfl
theorem q1170 : (Jvm.Cond.methodLinkNest "PlugHall$JobReader" (113 : Nat) ({ cls := "PlugHall", name := "isIn", desc := "(III)Z" } : Jvm.MethodName) "PlugHall") ∈ lw_tbl := lw_at lw_m5 115 rfl
theorem q1171 : (Jvm.Cond.methodLink "PlugHall$JobReader" (73 : Nat) ({ cls := "PlugHall$JobReader", name := "want", desc := "(Z)V" } : Jvm.MethodName)) ∈ lw_all := lw_g (lw_at lw_m5 116 rfl) rfl
theorem q1172 : (Jvm.Cond.privateMethod ({ cls := "PlugHall$JobReader", name := "want", desc := "(Z)V" } : Jvm.MethodName)) ∈ lw_tbl := lw_at lw_m5 117 rfl
theorem q1173 : (Jvm.Cond.instanceMethod ({ cls := "PlugHall$JobReader", name := "want", desc := "(Z)V" } : Jvm.MethodName)) ∈ lw_all := lw_g (lw_at lw_m5 118 rfl) rfl
theorem q1174 : (Jvm.Cond.code ({ cls := "PlugHall$JobReader", name := "want", desc := "(Z)V" } : Jvm.MethodName) prog_6_method_6_code (3 : Nat) (Option.none : Option Jvm.ClassFile.FieldType)) ∈ lw_all := lw_g (lw_at lw_m5 119 rfl) rfl
theorem q1175 : (Jvm.Cond.stringRef "PlugHall$JobReader" (130 : Nat) "over") ∈ lw_tbl := lw_at lw_m5 120 rfl
theorem q1176 : (Jvm.Cond.methodLink "PlugHall$JobReader" (77 : Nat) ({ cls := "PlugHall$JobReader", name := "sign", desc := "(I)V" } : Jvm.MethodName)) ∈ lw_all := lw_g (lw_at lw_m5 121 rfl) rfl
theorem q1177 : (Jvm.Cond.sameMethod "PlugHall$JobReader" "PlugHall$Tokens" "sign" "(I)V") ∈ lw_all := lw_g (lw_at lw_m5 122 rfl) rfl
theorem q1178 : (Jvm.Cond.selects "PlugHall$JobReader" ({ cls := "PlugHall$JobReader", name := "sign", desc := "(I)V" } : Jvm.MethodName) ({ cls := "PlugHall$Tokens", name := "sign", desc := "(I)V" } : Jvm.MethodName)) ∈ lw_all := lw_g (lw_at lw_m5 123 rfl) rfl
theorem q1179 : (Jvm.Cond.methodLink "PlugHall" (270 : Nat) ({ cls := "PlugHall", name := "part", desc := "()V" } : Jvm.MethodName)) ∈ lw_all := lw_g (lw_at lw_m5 124 rfl) rfl
theorem q1180 : (Jvm.Cond.privateMethod ({ cls := "PlugHall", name := "part", desc := "()V" } : Jvm.MethodName)) ∈ lw_tbl := lw_at lw_m5 125 rfl
theorem q1181 : (Jvm.Cond.instanceMethod ({ cls := "PlugHall", name := "part", desc := "()V" } : Jvm.MethodName)) ∈ lw_all := lw_g (lw_at lw_m5 126 rfl) rfl
theorem q1182 : (Jvm.Cond.code ({ cls := "PlugHall", name := "part", desc := "()V" } : Jvm.MethodName) prog_1_method_36_code (4 : Nat) (Option.none : Option Jvm.ClassFile.FieldType)) ∈ lw_all := lw_g (lw_at lw_m5 127 rfl) rfl
theorem q1183 : (Jvm.Cond.classLink "PlugHall" (279 : Nat) "PlugHall$Maker") ∈ lw_all := lw_g (lw_at lw_m5 128 rfl) rfl
theorem q1184 : (Jvm.Cond.instantiable "PlugHall$Maker" (7 : Nat)) ∈ lw_all := lw_g (lw_at lw_m5 129 rfl) rfl
theorem q1185 : (Jvm.Cond.methodLink "PlugHall" (281 : Nat) ({ cls := "PlugHall$Maker", name := "<init>", desc := "(LPlugHall$Job;)V" } : Jvm.MethodName)) ∈ lw_all := lw_g (lw_at lw_m5 130 rfl) rfl
theorem q1186 : (Jvm.Cond.instanceMethod ({ cls := "PlugHall$Maker", name := "<init>", desc := "(LPlugHall$Job;)V" } : Jvm.MethodName)) ∈ lw_all := lw_g (lw_at lw_m5 131 rfl) rfl
theorem q1187 : (Jvm.Cond.code ({ cls := "PlugHall$Maker", name := "<init>", desc := "(LPlugHall$Job;)V" } : Jvm.MethodName) prog_8_method_1_code (2 : Nat) (Option.none : Option Jvm.ClassFile.FieldType)) ∈ lw_all := lw_g (lw_at lw_m5 132 rfl) rfl
theorem q1188 : (Jvm.Cond.methodLink "PlugHall$Maker" (3 : Nat) ({ cls := "java/lang/Object", name := "<init>", desc := "()V" } : Jvm.MethodName)) ∈ lw_all := lw_g (lw_at lw_m5 133 rfl) rfl
theorem q1189 : (Jvm.Cond.classLink "PlugHall$Maker" (9 : Nat) "PlugHall$Board") ∈ lw_all := lw_g (lw_at lw_m5 134 rfl) rfl
theorem q1190 : (Jvm.Cond.methodLinkNest "PlugHall$Maker" (11 : Nat) ({ cls := "PlugHall$Board", name := "<init>", desc := "()V" } : Jvm.MethodName) "PlugHall") ∈ lw_tbl := lw_at lw_m5 135 rfl
theorem q1191 : (Jvm.Cond.fieldLink "PlugHall$Maker" (29 : Nat) "PlugHall$Maker" "job" "LPlugHall$Job;") ∈ lw_all := lw_g (lw_at lw_m5 136 rfl) rfl
theorem q1192 : (Jvm.Cond.fieldLink "PlugHall$Maker" (12 : Nat) "PlugHall$Maker" "board" "LPlugHall$Board;") ∈ lw_all := lw_g (lw_at lw_m5 137 rfl) rfl
theorem q1193 : (Jvm.Cond.fieldLink "PlugHall$Maker" (18 : Nat) "PlugHall$Maker" "picker" "[I") ∈ lw_all := lw_g (lw_at lw_m5 138 rfl) rfl
theorem q1194 : (Jvm.Cond.fieldLink "PlugHall$Maker" (22 : Nat) "PlugHall$Maker" "points" "[I") ∈ lw_all := lw_g (lw_at lw_m5 139 rfl) rfl
theorem q1195 : (Jvm.Cond.fieldLink "PlugHall$Maker" (37 : Nat) "PlugHall$Maker" "relays" "I") ∈ lw_all := lw_g (lw_at lw_m5 140 rfl) rfl
theorem q1196 : (Jvm.Cond.fieldLink "PlugHall$Maker" (59 : Nat) "PlugHall$Maker" "bars" "I") ∈ lw_all := lw_g (lw_at lw_m5 141 rfl) rfl
theorem q1197 : (Jvm.Cond.fieldLink "PlugHall$Maker" (25 : Nat) "PlugHall$Maker" "good" "Z") ∈ lw_all := lw_g (lw_at lw_m5 142 rfl) rfl
theorem q1198 : (Jvm.Cond.laysFinal "PlugHall$Maker" "PlugHall$Maker" "job" "LPlugHall$Job;") ∈ lw_all := lw_g (lw_at lw_m5 143 rfl) rfl
theorem q1199 : (Jvm.Cond.soleField "PlugHall$Maker" "job") ∈ lw_all := lw_g (lw_at lw_m5 144 rfl) rfl
theorem q1200 : (Jvm.Cond.laysFinal "PlugHall$Maker" "PlugHall$Maker" "board" "LPlugHall$Board;") ∈ lw_all := lw_g (lw_at lw_m5 145 rfl) rfl
theorem q1201 : (Jvm.Cond.soleField "PlugHall$Maker" "board") ∈ lw_all := lw_g (lw_at lw_m5 146 rfl) rfl
theorem q1202 : (Jvm.Cond.laysFinal "PlugHall$Maker" "PlugHall$Maker" "picker" "[I") ∈ lw_all := lw_g (lw_at lw_m5 147 rfl) rfl
theorem q1203 : (Jvm.Cond.soleField "PlugHall$Maker" "picker") ∈ lw_all := lw_g (lw_at lw_m5 148 rfl) rfl
theorem q1204 : (Jvm.Cond.laysFinal "PlugHall$Maker" "PlugHall$Maker" "points" "[I") ∈ lw_all := lw_g (lw_at lw_m5 149 rfl) rfl
theorem q1205 : (Jvm.Cond.soleField "PlugHall$Maker" "points") ∈ lw_all := lw_g (lw_at lw_m5 150 rfl) rfl
theorem q1206 : (Jvm.Cond.lays "PlugHall$Maker" "PlugHall$Maker" "relays" "I") ∈ lw_all := lw_g (lw_at lw_m5 151 rfl) rfl
theorem q1207 : (Jvm.Cond.soleField "PlugHall$Maker" "relays") ∈ lw_all := lw_g (lw_at lw_m5 152 rfl) rfl
theorem q1208 : (Jvm.Cond.lays "PlugHall$Maker" "PlugHall$Maker" "bars" "I") ∈ lw_all := lw_g (lw_at lw_m5 153 rfl) rfl
theorem q1209 : (Jvm.Cond.soleField "PlugHall$Maker" "bars") ∈ lw_all := lw_g (lw_at lw_m5 154 rfl) rfl
theorem q1210 : (Jvm.Cond.lays "PlugHall$Maker" "PlugHall$Maker" "good" "Z") ∈ lw_all := lw_g (lw_at lw_m5 155 rfl) rfl
theorem q1211 : (Jvm.Cond.soleField "PlugHall$Maker" "good") ∈ lw_all := lw_g (lw_at lw_m5 156 rfl) rfl
theorem q1212 : (Jvm.Cond.superclass "PlugHall$Maker" "java/lang/Object") ∈ lw_all := lw_g (lw_at lw_m5 157 rfl) rfl
theorem q1213 : (Jvm.Cond.methodLink "PlugHall" (284 : Nat) ({ cls := "PlugHall$Maker", name := "make", desc := "(I)LPlugHall$Board;" } : Jvm.MethodName)) ∈ lw_all := lw_g (lw_at lw_m5 158 rfl) rfl
theorem q1214 : (Jvm.Cond.instanceMethod ({ cls := "PlugHall$Maker", name := "make", desc := "(I)LPlugHall$Board;" } : Jvm.MethodName)) ∈ lw_all := lw_g (lw_at lw_m5 159 rfl) rfl
theorem q1215 : (Jvm.Cond.selects "PlugHall$Maker" ({ cls := "PlugHall$Maker", name := "make", desc := "(I)LPlugHall$Board;" } : Jvm.MethodName) ({ cls := "PlugHall$Maker", name := "make", desc := "(I)LPlugHall$Board;" } : Jvm.MethodName)) ∈ lw_all := lw_g (lw_at lw_m5 160 rfl) rfl
theorem q1216 : (Jvm.Cond.code ({ cls := "PlugHall$Maker", name := "make", desc := "(I)LPlugHall$Board;" } : Jvm.MethodName) prog_8_method_4_code (5 : Nat) (Option.some (Jvm.ClassFile.FieldType.object "PlugHall$Board"))) ∈ lw_all := lw_g (lw_at lw_m5 161 rfl) rfl
theorem q1217 : (Jvm.Cond.methodLink "PlugHall$Maker" (41 : Nat) ({ cls := "PlugHall$Maker", name := "wire", desc := "(II)V" } : Jvm.MethodName)) ∈ lw_all := lw_g (lw_at lw_m5 162 rfl) rfl
theorem q1218 : (Jvm.Cond.privateMethod ({ cls := "PlugHall$Maker", name := "wire", desc := "(II)V" } : Jvm.MethodName)) ∈ lw_tbl := lw_at lw_m5 163 rfl
theorem q1219 : (Jvm.Cond.instanceMethod ({ cls := "PlugHall$Maker", name := "wire", desc := "(II)V" } : Jvm.MethodName)) ∈ lw_all := lw_g (lw_at lw_m5 164 rfl) rfl
theorem q1220 : (Jvm.Cond.code ({ cls := "PlugHall$Maker", name := "wire", desc := "(II)V" } : Jvm.MethodName) prog_8_method_2_code (3 : Nat) (Option.none : Option Jvm.ClassFile.FieldType)) ∈ lw_all := lw_g (lw_at lw_m5 165 rfl) rfl
theorem q1221 : (Jvm.Cond.methodLink "PlugHall$Maker" (33 : Nat) ({ cls := "PlugHall$Board", name := "add", desc := "(II)Z" } : Jvm.MethodName)) ∈ lw_all := lw_g (lw_at lw_m5 166 rfl) rfl
theorem q1222 : (Jvm.Cond.methodLink "PlugHall$Maker" (53 : Nat) ({ cls := "PlugHall$Maker", name := "takesIn", desc := "(II)V" } : Jvm.MethodName)) ∈ lw_all := lw_g (lw_at lw_m5 167 rfl) rfl
theorem q1223 : (Jvm.Cond.privateMethod ({ cls := "PlugHall$Maker", name := "takesIn", desc := "(II)V" } : Jvm.MethodName)) ∈ lw_tbl := lw_at lw_m5 168 rfl
theorem q1224 : (Jvm.Cond.instanceMethod ({ cls := "PlugHall$Maker", name := "takesIn", desc := "(II)V" } : Jvm.MethodName)) ∈ lw_all := lw_g (lw_at lw_m5 169 rfl) rfl
theorem q1225 : (Jvm.Cond.code ({ cls := "PlugHall$Maker", name := "takesIn", desc := "(II)V" } : Jvm.MethodName) prog_8_method_5_code (5 : Nat) (Option.none : Option Jvm.ClassFile.FieldType)) ∈ lw_all := lw_g (lw_at lw_m5 170 rfl) rfl
theorem q1226 : (Jvm.Cond.methodLink "PlugHall$Maker" (74 : Nat) ({ cls := "PlugHall$Maker", name := "point", desc := "(I)I" } : Jvm.MethodName)) ∈ lw_all := lw_g (lw_at lw_m5 171 rfl) rfl
theorem q1227 : (Jvm.Cond.privateMethod ({ cls := "PlugHall$Maker", name := "point", desc := "(I)I" } : Jvm.MethodName)) ∈ lw_tbl := lw_at lw_m5 172 rfl
theorem q1228 : (Jvm.Cond.instanceMethod ({ cls := "PlugHall$Maker", name := "point", desc := "(I)I" } : Jvm.MethodName)) ∈ lw_all := lw_g (lw_at lw_m5 173 rfl) rfl
theorem q1229 : (Jvm.Cond.code ({ cls := "PlugHall$Maker", name := "point", desc := "(I)I" } : Jvm.MethodName) prog_8_method_3_code (3 : Nat) (Option.some Jvm.ClassFile.FieldType.int)) ∈ lw_all := lw_g (lw_at lw_m5 174 rfl) rfl
theorem q1230 : (Jvm.Cond.methodLink "PlugHall$Maker" (56 : Nat) ({ cls := "PlugHall$Maker", name := "prints", desc := "(II)V" } : Jvm.MethodName)) ∈ lw_all := lw_g (lw_at lw_m5 175 rfl) rfl
theorem q1231 : (Jvm.Cond.privateMethod ({ cls := "PlugHall$Maker", name := "prints", desc := "(II)V" } : Jvm.MethodName)) ∈ lw_tbl := lw_at lw_m5 176 rfl
theorem q1232 : (Jvm.Cond.instanceMethod ({ cls := "PlugHall$Maker", name := "prints", desc := "(II)V" } : Jvm.MethodName)) ∈ lw_all := lw_g (lw_at lw_m5 177 rfl) rfl
theorem q1233 : (Jvm.Cond.code ({ cls := "PlugHall$Maker", name := "prints", desc := "(II)V" } : Jvm.MethodName) prog_8_method_6_code (6 : Nat) (Option.none : Option Jvm.ClassFile.FieldType)) ∈ lw_all := lw_g (lw_at lw_m5 178 rfl) rfl
theorem q1234 : (Jvm.Cond.methodLink "PlugHall" (288 : Nat) ({ cls := "PlugHall", name := "firstRun", desc := "(I)I" } : Jvm.MethodName)) ∈ lw_all := lw_g (lw_at lw_m5 179 rfl) rfl
theorem q1235 : (Jvm.Cond.privateMethod ({ cls := "PlugHall", name := "firstRun", desc := "(I)I" } : Jvm.MethodName)) ∈ lw_tbl := lw_at lw_m5 180 rfl
theorem q1236 : (Jvm.Cond.instanceMethod ({ cls := "PlugHall", name := "firstRun", desc := "(I)I" } : Jvm.MethodName)) ∈ lw_all := lw_g (lw_at lw_m5 181 rfl) rfl
theorem q1237 : (Jvm.Cond.code ({ cls := "PlugHall", name := "firstRun", desc := "(I)I" } : Jvm.MethodName) prog_1_method_37_code (5 : Nat) (Option.some Jvm.ClassFile.FieldType.int)) ∈ lw_all := lw_g (lw_at lw_m5 182 rfl) rfl
theorem q1238 : (Jvm.Cond.methodLink "PlugHallLaw" (119 : Nat) ({ cls := "PlugHall", name := "runs", desc := "()I" } : Jvm.MethodName)) ∈ lw_all := lw_g (lw_at lw_m5 183 rfl) rfl
theorem q1239 : (Jvm.Cond.instanceMethod ({ cls := "PlugHall", name := "runs", desc := "()I" } : Jvm.MethodName)) ∈ lw_all := lw_g (lw_at lw_m5 184 rfl) rfl
theorem q1240 : (Jvm.Cond.selects "PlugHall" ({ cls := "PlugHall", name := "runs", desc := "()I" } : Jvm.MethodName) ({ cls := "PlugHall", name := "runs", desc := "()I" } : Jvm.MethodName)) ∈ lw_all := lw_g (lw_at lw_m5 185 rfl) rfl
theorem q1241 : (Jvm.Cond.code ({ cls := "PlugHall", name := "runs", desc := "()I" } : Jvm.MethodName) prog_1_method_38_code (1 : Nat) (Option.some Jvm.ClassFile.FieldType.int)) ∈ lw_all := lw_g (lw_at lw_m5 186 rfl) rfl
theorem q1242 : (Jvm.Cond.methodLink "PlugHallLaw" (123 : Nat) ({ cls := "PlugHall", name := "wants", desc := "(I)I" } : Jvm.MethodName)) ∈ lw_all := lw_g (lw_at lw_m5 187 rfl) rfl
theorem q1243 : (Jvm.Cond.instanceMethod ({ cls := "PlugHall", name := "wants", desc := "(I)I" } : Jvm.MethodName)) ∈ lw_all := lw_g (lw_at lw_m5 188 rfl) rfl
theorem q1244 : (Jvm.Cond.selects "PlugHall" ({ cls := "PlugHall", name := "wants", desc := "(I)I" } : Jvm.MethodName) ({ cls := "PlugHall", name := "wants", desc := "(I)I" } : Jvm.MethodName)) ∈ lw_all := lw_g (lw_at lw_m5 189 rfl) rfl
theorem q1245 : (Jvm.Cond.code ({ cls := "PlugHall", name := "wants", desc := "(I)I" } : Jvm.MethodName) prog_1_method_40_code (2 : Nat) (Option.some Jvm.ClassFile.FieldType.int)) ∈ lw_all := lw_g (lw_at lw_m5 190 rfl) rfl
theorem q1246 : (Jvm.Cond.methodLink "PlugHall" (292 : Nat) ({ cls := "PlugHall", name := "isRun", desc := "(I)Z" } : Jvm.MethodName)) ∈ lw_all := lw_g (lw_at lw_m5 191 rfl) rfl
theorem q1247 : (Jvm.Cond.privateMethod ({ cls := "PlugHall", name := "isRun", desc := "(I)Z" } : Jvm.MethodName)) ∈ lw_tbl := lw_at lw_m5 192 rfl
theorem q1248 : (Jvm.Cond.instanceMethod ({ cls := "PlugHall", name := "isRun", desc := "(I)Z" } : Jvm.MethodName)) ∈ lw_all := lw_g (lw_at lw_m5 193 rfl) rfl
theorem q1249 : (Jvm.Cond.code ({ cls := "PlugHall", name := "isRun", desc := "(I)Z" } : Jvm.MethodName) prog_1_method_39_code (2 : Nat) (Option.some Jvm.ClassFile.FieldType.boolean)) ∈ lw_all := lw_g (lw_at lw_m5 194 rfl) rfl
theorem q1250 : (Jvm.Cond.methodLink "PlugHallLaw" (127 : Nat) ({ cls := "PlugHall", name := "make", desc := "(I)I" } : Jvm.MethodName)) ∈ lw_all := lw_g (lw_at lw_m5 195 rfl) rfl
theorem q1251 : (Jvm.Cond.instanceMethod ({ cls := "PlugHall", name := "make", desc := "(I)I" } : Jvm.MethodName)) ∈ lw_all := lw_g (lw_at lw_m5 196 rfl) rfl
theorem q1252 : (Jvm.Cond.selects "PlugHall" ({ cls := "PlugHall", name := "make", desc := "(I)I" } : Jvm.MethodName) ({ cls := "PlugHall", name := "make", desc := "(I)I" } : Jvm.MethodName)) ∈ lw_all := lw_g (lw_at lw_m5 197 rfl) rfl
theorem q1253 : (Jvm.Cond.code ({ cls := "PlugHall", name := "make", desc := "(I)I" } : Jvm.MethodName) prog_1_method_41_code (2 : Nat) (Option.some Jvm.ClassFile.FieldType.int)) ∈ lw_all := lw_g (lw_at lw_m5 198 rfl) rfl
theorem q1254 : (Jvm.Cond.methodLink "PlugHallLaw" (131 : Nat) ({ cls := "PlugHall", name := "wanted", desc := "(II)I" } : Jvm.MethodName)) ∈ lw_all := lw_g (lw_at lw_m5 199 rfl) rfl
theorem q1255 : (Jvm.Cond.instanceMethod ({ cls := "PlugHall", name := "wanted", desc := "(II)I" } : Jvm.MethodName)) ∈ lw_all := lw_g (lw_at lw_m5 200 rfl) rfl
theorem q1256 : (Jvm.Cond.selects "PlugHall" ({ cls := "PlugHall", name := "wanted", desc := "(II)I" } : Jvm.MethodName) ({ cls := "PlugHall", name := "wanted", desc := "(II)I" } : Jvm.MethodName)) ∈ lw_all := lw_g (lw_at lw_m5 201 rfl) rfl
theorem q1257 : (Jvm.Cond.code ({ cls := "PlugHall", name := "wanted", desc := "(II)I" } : Jvm.MethodName) prog_1_method_44_code (3 : Nat) (Option.some Jvm.ClassFile.FieldType.int)) ∈ lw_all := lw_g (lw_at lw_m5 202 rfl) rfl
theorem q1258 : (Jvm.Cond.methodLink "PlugHall" (327 : Nat) ({ cls := "PlugHall", name := "want", desc := "(LPlugHall$Box;ILPlugHall$Outcome;)V" } : Jvm.MethodName)) ∈ lw_all := lw_g (lw_at lw_m5 203 rfl) rfl
theorem q1259 : (Jvm.Cond.privateMethod ({ cls := "PlugHall", name := "want", desc := "(LPlugHall$Box;ILPlugHall$Outcome;)V" } : Jvm.MethodName)) ∈ lw_tbl := lw_at lw_m5 204 rfl
theorem q1260 : (Jvm.Cond.instanceMethod ({ cls := "PlugHall", name := "want", desc := "(LPlugHall$Box;ILPlugHall$Outcome;)V" } : Jvm.MethodName)) ∈ lw_all := lw_g (lw_at lw_m5 205 rfl) rfl
theorem q1261 : (Jvm.Cond.code ({ cls := "PlugHall", name := "want", desc := "(LPlugHall$Box;ILPlugHall$Outcome;)V" } : Jvm.MethodName) prog_1_method_42_code (8 : Nat) (Option.none : Option Jvm.ClassFile.FieldType)) ∈ lw_all := lw_g (lw_at lw_m5 206 rfl) rfl
theorem q1262 : (Jvm.Cond.methodLink "PlugHall" (295 : Nat) ({ cls := "PlugHall$Job", name := "adds", desc := "(I[B)I" } : Jvm.MethodName)) ∈ lw_all := lw_g (lw_at lw_m5 207 rfl) rfl
theorem q1263 : (Jvm.Cond.instanceMethod ({ cls := "PlugHall$Job", name := "adds", desc := "(I[B)I" } : Jvm.MethodName)) ∈ lw_all := lw_g (lw_at lw_m5 208 rfl) rfl
theorem q1264 : (Jvm.Cond.selects "PlugHall$Job" ({ cls := "PlugHall$Job", name := "adds", desc := "(I[B)I" } : Jvm.MethodName) ({ cls := "PlugHall$Job", name := "adds", desc := "(I[B)I" } : Jvm.MethodName)) ∈ lw_all := lw_g (lw_at lw_m5 209 rfl) rfl
theorem q1265 : (Jvm.Cond.code ({ cls := "PlugHall$Job", name := "adds", desc := "(I[B)I" } : Jvm.MethodName) prog_5_method_3_code (5 : Nat) (Option.some Jvm.ClassFile.FieldType.int)) ∈ lw_all := lw_g (lw_at lw_m5 210 rfl) rfl
theorem q1266 : (Jvm.Cond.constant "PlugHall" (299 : Nat) (1000000 : Int32)) ∈ lw_all := lw_g (lw_at lw_m5 211 rfl) rfl
theorem q1267 : (Jvm.Cond.methodLink "PlugHall" (300 : Nat) ({ cls := "PlugHall$Job", name := "orderBehind", desc := "([B[B)I" } : Jvm.MethodName)) ∈ lw_all := lw_g (lw_at lw_m5 212 rfl) rfl
theorem q1268 : (Jvm.Cond.instanceMethod ({ cls := "PlugHall$Job", name := "orderBehind", desc := "([B[B)I" } : Jvm.MethodName)) ∈ lw_all := lw_g (lw_at lw_m5 213 rfl) rfl
theorem q1269 : (Jvm.Cond.selects "PlugHall$Job" ({ cls := "PlugHall$Job", name := "orderBehind", desc := "([B[B)I" } : Jvm.MethodName) ({ cls := "PlugHall$Job", name := "orderBehind", desc := "([B[B)I" } : Jvm.MethodName)) ∈ lw_all := lw_g (lw_at lw_m5 214 rfl) rfl
theorem q1270 : (Jvm.Cond.code ({ cls := "PlugHall$Job", name := "orderBehind", desc := "([B[B)I" } : Jvm.MethodName) prog_5_method_4_code (5 : Nat) (Option.some Jvm.ClassFile.FieldType.int)) ∈ lw_all := lw_g (lw_at lw_m5 215 rfl) rfl
theorem q1271 : (Jvm.Cond.methodLink "PlugHall" (304 : Nat) ({ cls := "PlugHall", name := "total", desc := "(II[ILPlugHall$Outcome;)V" } : Jvm.MethodName)) ∈ lw_all := lw_g (lw_at lw_m5 216 rfl) rfl
theorem q1272 : (Jvm.Cond.privateMethod ({ cls := "PlugHall", name := "total", desc := "(II[ILPlugHall$Outcome;)V" } : Jvm.MethodName)) ∈ lw_tbl := lw_at lw_m5 217 rfl
theorem q1273 : (Jvm.Cond.instanceMethod ({ cls := "PlugHall", name := "total", desc := "(II[ILPlugHall$Outcome;)V" } : Jvm.MethodName)) ∈ lw_all := lw_g (lw_at lw_m5 218 rfl) rfl
theorem q1274 : (Jvm.Cond.code ({ cls := "PlugHall", name := "total", desc := "(II[ILPlugHall$Outcome;)V" } : Jvm.MethodName) prog_1_method_43_code (11 : Nat) (Option.none : Option Jvm.ClassFile.FieldType)) ∈ lw_all := lw_g (lw_at lw_m5 219 rfl) rfl
theorem q1275 : (Jvm.Cond.methodLink "PlugHall" (308 : Nat) ({ cls := "java/util/Arrays", name := "fill", desc := "([BB)V" } : Jvm.MethodName)) ∈ lw_all := lw_g (lw_at lw_m5 220 rfl) rfl
theorem q1276 : (Jvm.Cond.static ({ cls := "java/util/Arrays", name := "fill", desc := "([BB)V" } : Jvm.MethodName)) ∈ lw_all := lw_g (lw_at lw_m5 221 rfl) rfl
theorem q1277 : (Jvm.Cond.code ({ cls := "java/util/Arrays", name := "fill", desc := "([BB)V" } : Jvm.MethodName) prog_27_method_109_code (4 : Nat) (Option.none : Option Jvm.ClassFile.FieldType)) ∈ lw_all := lw_g (lw_at lw_m5 222 rfl) rfl
theorem q1278 : (Jvm.Cond.methodLink "PlugHall" (315 : Nat) ({ cls := "java/lang/Math", name := "abs", desc := "(I)I" } : Jvm.MethodName)) ∈ lw_all := lw_g (lw_at lw_m5 223 rfl) rfl
theorem q1279 : (Jvm.Cond.methodLink "PlugHall" (321 : Nat) ({ cls := "java/lang/System", name := "arraycopy", desc := "(Ljava/lang/Object;ILjava/lang/Object;II)V" } : Jvm.MethodName)) ∈ lw_all := lw_g (lw_at lw_m5 224 rfl) rfl
theorem q1280 : (Jvm.Cond.methodLink "PlugHallLaw" (138 : Nat) ({ cls := "PlugHall", name := "same", desc := "(II)I" } : Jvm.MethodName)) ∈ lw_all := lw_g (lw_at lw_m5 225 rfl) rfl
theorem q1281 : (Jvm.Cond.instanceMethod ({ cls := "PlugHall", name := "same", desc := "(II)I" } : Jvm.MethodName)) ∈ lw_all := lw_g (lw_at lw_m5 226 rfl) rfl
theorem q1282 : (Jvm.Cond.selects "PlugHall" ({ cls := "PlugHall", name := "same", desc := "(II)I" } : Jvm.MethodName) ({ cls := "PlugHall", name := "same", desc := "(II)I" } : Jvm.MethodName)) ∈ lw_all := lw_g (lw_at lw_m5 227 rfl) rfl
theorem q1283 : (Jvm.Cond.code ({ cls := "PlugHall", name := "same", desc := "(II)I" } : Jvm.MethodName) prog_1_method_46_code (3 : Nat) (Option.some Jvm.ClassFile.FieldType.int)) ∈ lw_all := lw_g (lw_at lw_m5 228 rfl) rfl
theorem q1284 : (Jvm.Cond.methodLink "PlugHallLaw" (142 : Nat) ({ cls := "PlugHall", name := "needed", desc := "(I)I" } : Jvm.MethodName)) ∈ lw_all := lw_g (lw_at lw_m5 229 rfl) rfl
theorem q1285 : (Jvm.Cond.instanceMethod ({ cls := "PlugHall", name := "needed", desc := "(I)I" } : Jvm.MethodName)) ∈ lw_all := lw_g (lw_at lw_m5 230 rfl) rfl
theorem q1286 : (Jvm.Cond.selects "PlugHall" ({ cls := "PlugHall", name := "needed", desc := "(I)I" } : Jvm.MethodName) ({ cls := "PlugHall", name := "needed", desc := "(I)I" } : Jvm.MethodName)) ∈ lw_all := lw_g (lw_at lw_m5 231 rfl) rfl
theorem q1287 : (Jvm.Cond.code ({ cls := "PlugHall", name := "needed", desc := "(I)I" } : Jvm.MethodName) prog_1_method_47_code (5 : Nat) (Option.some Jvm.ClassFile.FieldType.int)) ∈ lw_all := lw_g (lw_at lw_m5 232 rfl) rfl
theorem q1288 : (Jvm.Cond.methodLink "PlugHall" (330 : Nat) ({ cls := "PlugHall", name := "isOrdered", desc := "(LPlugHall$Box;II)Z" } : Jvm.MethodName)) ∈ lw_all := lw_g (lw_at lw_m5 233 rfl) rfl
theorem q1289 : (Jvm.Cond.privateMethod ({ cls := "PlugHall", name := "isOrdered", desc := "(LPlugHall$Box;II)Z" } : Jvm.MethodName)) ∈ lw_tbl := lw_at lw_m5 234 rfl
theorem q1290 : (Jvm.Cond.instanceMethod ({ cls := "PlugHall", name := "isOrdered", desc := "(LPlugHall$Box;II)Z" } : Jvm.MethodName)) ∈ lw_all := lw_g (lw_at lw_m5 235 rfl) rfl
theorem q1291 : (Jvm.Cond.code ({ cls := "PlugHall", name := "isOrdered", desc := "(LPlugHall$Box;II)Z" } : Jvm.MethodName) prog_1_method_48_code (7 : Nat) (Option.some Jvm.ClassFile.FieldType.boolean)) ∈ lw_all := lw_g (lw_at lw_m5 236 rfl) rfl
theorem q1292 : (Jvm.Cond.methodLink "PlugHallLaw" (146 : Nat) ({ cls := "PlugHall", name := "neededSet", desc := "()I" } : Jvm.MethodName)) ∈ lw_all := lw_g (lw_at lw_m5 237 rfl) rfl
theorem q1293 : (Jvm.Cond.instanceMethod ({ cls := "PlugHall", name := "neededSet", desc := "()I" } : Jvm.MethodName)) ∈ lw_all := lw_g (lw_at lw_m5 238 rfl) rfl
theorem q1294 : (Jvm.Cond.selects "PlugHall" ({ cls := "PlugHall", name := "neededSet", desc := "()I" } : Jvm.MethodName) ({ cls := "PlugHall", name := "neededSet", desc := "()I" } : Jvm.MethodName)) ∈ lw_all := lw_g (lw_at lw_m5 239 rfl) rfl
theorem q1295 : (Jvm.Cond.code ({ cls := "PlugHall", name := "neededSet", desc := "()I" } : Jvm.MethodName) prog_1_method_49_code (1 : Nat) (Option.some Jvm.ClassFile.FieldType.int)) ∈ lw_all := lw_g (lw_at lw_m6 0 rfl) rfl
theorem q1296 : (Jvm.Cond.methodLink "PlugHallLaw" (150 : Nat) ({ cls := "PlugHall", name := "unseen", desc := "(I)I" } : Jvm.MethodName)) ∈ lw_all := lw_g (lw_at lw_m6 1 rfl) rfl
theorem q1297 : (Jvm.Cond.instanceMethod ({ cls := "PlugHall", name := "unseen", desc := "(I)I" } : Jvm.MethodName)) ∈ lw_all := lw_g (lw_at lw_m6 2 rfl) rfl
theorem q1298 : (Jvm.Cond.selects "PlugHall" ({ cls := "PlugHall", name := "unseen", desc := "(I)I" } : Jvm.MethodName) ({ cls := "PlugHall", name := "unseen", desc := "(I)I" } : Jvm.MethodName)) ∈ lw_all := lw_g (lw_at lw_m6 3 rfl) rfl
theorem q1299 : (Jvm.Cond.code ({ cls := "PlugHall", name := "unseen", desc := "(I)I" } : Jvm.MethodName) prog_1_method_50_code (5 : Nat) (Option.some Jvm.ClassFile.FieldType.int)) ∈ lw_all := lw_g (lw_at lw_m6 4 rfl) rfl
theorem q1300 : (Jvm.Cond.classLink "PlugHall" (340 : Nat) "[B") ∈ lw_all := lw_g (lw_at lw_m6 5 rfl) rfl
theorem q1301 : (Jvm.Cond.methodLink "PlugHallLaw" (154 : Nat) ({ cls := "PlugHall", name := "unseenAt", desc := "(I)I" } : Jvm.MethodName)) ∈ lw_all := lw_g (lw_at lw_m6 6 rfl) rfl
theorem q1302 : (Jvm.Cond.instanceMethod ({ cls := "PlugHall", name := "unseenAt", desc := "(I)I" } : Jvm.MethodName)) ∈ lw_all := lw_g (lw_at lw_m6 7 rfl) rfl
theorem q1303 : (Jvm.Cond.selects "PlugHall" ({ cls := "PlugHall", name := "unseenAt", desc := "(I)I" } : Jvm.MethodName) ({ cls := "PlugHall", name := "unseenAt", desc := "(I)I" } : Jvm.MethodName)) ∈ lw_all := lw_g (lw_at lw_m6 8 rfl) rfl
theorem q1304 : (Jvm.Cond.code ({ cls := "PlugHall", name := "unseenAt", desc := "(I)I" } : Jvm.MethodName) prog_1_method_51_code (2 : Nat) (Option.some Jvm.ClassFile.FieldType.int)) ∈ lw_all := lw_g (lw_at lw_m6 9 rfl) rfl
theorem q1305 : (Jvm.Cond.methodLink "PlugHallLaw" (158 : Nat) ({ cls := "PlugHall", name := "moves", desc := "(I)I" } : Jvm.MethodName)) ∈ lw_all := lw_g (lw_at lw_m6 10 rfl) rfl
theorem q1306 : (Jvm.Cond.instanceMethod ({ cls := "PlugHall", name := "moves", desc := "(I)I" } : Jvm.MethodName)) ∈ lw_all := lw_g (lw_at lw_m6 11 rfl) rfl
theorem q1307 : (Jvm.Cond.selects "PlugHall" ({ cls := "PlugHall", name := "moves", desc := "(I)I" } : Jvm.MethodName) ({ cls := "PlugHall", name := "moves", desc := "(I)I" } : Jvm.MethodName)) ∈ lw_all := lw_g (lw_at lw_m6 12 rfl) rfl
theorem q1308 : (Jvm.Cond.code ({ cls := "PlugHall", name := "moves", desc := "(I)I" } : Jvm.MethodName) prog_1_method_55_code (11 : Nat) (Option.some Jvm.ClassFile.FieldType.int)) ∈ lw_all := lw_g (lw_at lw_m6 13 rfl) rfl
theorem q1309 : (Jvm.Cond.methodLink "PlugHall" (368 : Nat) ({ cls := "PlugHall", name := "sortOf", desc := "(I)LPlugHall$Sort;" } : Jvm.MethodName)) ∈ lw_all := lw_g (lw_at lw_m6 14 rfl) rfl
theorem q1310 : (Jvm.Cond.static ({ cls := "PlugHall", name := "sortOf", desc := "(I)LPlugHall$Sort;" } : Jvm.MethodName)) ∈ lw_all := lw_g (lw_at lw_m6 15 rfl) rfl
theorem q1311 : (Jvm.Cond.code ({ cls := "PlugHall", name := "sortOf", desc := "(I)LPlugHall$Sort;" } : Jvm.MethodName) prog_1_method_52_code (6 : Nat) (Option.some (Jvm.ClassFile.FieldType.object "PlugHall$Sort"))) ∈ lw_all := lw_g (lw_at lw_m6 16 rfl) rfl
theorem q1312 : (Jvm.Cond.fieldLink "PlugHall" (341 : Nat) "PlugHall" "SORTS" "[LPlugHall$Sort;") ∈ lw_all := lw_g (lw_at lw_m6 17 rfl) rfl
theorem q1313 : (Jvm.Cond.methodLink "PlugHall" (372 : Nat) ({ cls := "PlugHall", name := "manyOf", desc := "(LPlugHall$Sort;)I" } : Jvm.MethodName)) ∈ lw_all := lw_g (lw_at lw_m6 18 rfl) rfl
theorem q1314 : (Jvm.Cond.static ({ cls := "PlugHall", name := "manyOf", desc := "(LPlugHall$Sort;)I" } : Jvm.MethodName)) ∈ lw_all := lw_g (lw_at lw_m6 19 rfl) rfl
theorem q1315 : (Jvm.Cond.code ({ cls := "PlugHall", name := "manyOf", desc := "(LPlugHall$Sort;)I" } : Jvm.MethodName) prog_1_method_53_code (1 : Nat) (Option.some Jvm.ClassFile.FieldType.int)) ∈ lw_all := lw_g (lw_at lw_m6 20 rfl) rfl
theorem q1316 : (Jvm.Cond.methodLink "PlugHall" (353 : Nat) ({ cls := "java/lang/Math", name := "max", desc := "(II)I" } : Jvm.MethodName)) ∈ lw_all := lw_g (lw_at lw_m6 21 rfl) rfl
theorem q1317 : (Jvm.Cond.methodLink "PlugHall" (376 : Nat) ({ cls := "PlugHall", name := "wiresOf", desc := "(I)I" } : Jvm.MethodName)) ∈ lw_all := lw_g (lw_at lw_m6 22 rfl) rfl
theorem q1318 : (Jvm.Cond.privateMethod ({ cls := "PlugHall", name := "wiresOf", desc := "(I)I" } : Jvm.MethodName)) ∈ lw_tbl := lw_at lw_m6 23 rfl
theorem q1319 : (Jvm.Cond.instanceMethod ({ cls := "PlugHall", name := "wiresOf", desc := "(I)I" } : Jvm.MethodName)) ∈ lw_all := lw_g (lw_at lw_m6 24 rfl) rfl
theorem q1320 : (Jvm.Cond.code ({ cls := "PlugHall", name := "wiresOf", desc := "(I)I" } : Jvm.MethodName) prog_1_method_54_code (4 : Nat) (Option.some Jvm.ClassFile.FieldType.int)) ∈ lw_all := lw_g (lw_at lw_m6 25 rfl) rfl
theorem q1321 : (Jvm.Cond.methodLink "PlugHall" (379 : Nat) ({ cls := "PlugHall", name := "mostOf", desc := "(I)I" } : Jvm.MethodName)) ∈ lw_all := lw_g (lw_at lw_m6 26 rfl) rfl
theorem q1322 : (Jvm.Cond.methodLink "PlugHall" (382 : Nat) ({ cls := "PlugHall$Board", name := "like", desc := "(LPlugHall$Board;III)LPlugHall$Board;" } : Jvm.MethodName)) ∈ lw_all := lw_g (lw_at lw_m6 27 rfl) rfl
theorem q1323 : (Jvm.Cond.instanceMethod ({ cls := "PlugHall$Board", name := "like", desc := "(LPlugHall$Board;III)LPlugHall$Board;" } : Jvm.MethodName)) ∈ lw_all := lw_g (lw_at lw_m6 28 rfl) rfl
theorem q1324 : (Jvm.Cond.selects "PlugHall$Board" ({ cls := "PlugHall$Board", name := "like", desc := "(LPlugHall$Board;III)LPlugHall$Board;" } : Jvm.MethodName) ({ cls := "PlugHall$Board", name := "like", desc := "(LPlugHall$Board;III)LPlugHall$Board;" } : Jvm.MethodName)) ∈ lw_all := lw_g (lw_at lw_m6 29 rfl) rfl
theorem q1325 : (Jvm.Cond.code ({ cls := "PlugHall$Board", name := "like", desc := "(LPlugHall$Board;III)LPlugHall$Board;" } : Jvm.MethodName) prog_2_method_3_code (6 : Nat) (Option.some (Jvm.ClassFile.FieldType.object "PlugHall$Board"))) ∈ lw_all := lw_g (lw_at lw_m6 30 rfl) rfl
theorem q1326 : (Jvm.Cond.methodLink "PlugHall$Board" (22 : Nat) ({ cls := "PlugHall$Board", name := "add", desc := "(II)Z" } : Jvm.MethodName)) ∈ lw_all := lw_g (lw_at lw_m6 31 rfl) rfl
theorem q1327 : (Jvm.Cond.methodLink "PlugHallLaw" (162 : Nat) ({ cls := "PlugHall", name := "move", desc := "(II)I" } : Jvm.MethodName)) ∈ lw_all := lw_g (lw_at lw_m6 32 rfl) rfl
theorem q1328 : (Jvm.Cond.instanceMethod ({ cls := "PlugHall", name := "move", desc := "(II)I" } : Jvm.MethodName)) ∈ lw_all := lw_g (lw_at lw_m6 33 rfl) rfl
theorem q1329 : (Jvm.Cond.selects "PlugHall" ({ cls := "PlugHall", name := "move", desc := "(II)I" } : Jvm.MethodName) ({ cls := "PlugHall", name := "move", desc := "(II)I" } : Jvm.MethodName)) ∈ lw_all := lw_g (lw_at lw_m6 34 rfl) rfl
theorem q1330 : (Jvm.Cond.code ({ cls := "PlugHall", name := "move", desc := "(II)I" } : Jvm.MethodName) prog_1_method_56_code (3 : Nat) (Option.some Jvm.ClassFile.FieldType.int)) ∈ lw_all := lw_g (lw_at lw_m6 35 rfl) rfl
theorem q1331 : (Jvm.Cond.methodLink "PlugHallLaw" (166 : Nat) ({ cls := "PlugHall", name := "keep", desc := "(I)Z" } : Jvm.MethodName)) ∈ lw_all := lw_g (lw_at lw_m6 36 rfl) rfl
theorem q1332 : (Jvm.Cond.instanceMethod ({ cls := "PlugHall", name := "keep", desc := "(I)Z" } : Jvm.MethodName)) ∈ lw_all := lw_g (lw_at lw_m6 37 rfl) rfl
theorem q1333 : (Jvm.Cond.selects "PlugHall" ({ cls := "PlugHall", name := "keep", desc := "(I)Z" } : Jvm.MethodName) ({ cls := "PlugHall", name := "keep", desc := "(I)Z" } : Jvm.MethodName)) ∈ lw_all := lw_g (lw_at lw_m6 38 rfl) rfl
theorem q1334 : (Jvm.Cond.code ({ cls := "PlugHall", name := "keep", desc := "(I)Z" } : Jvm.MethodName) prog_1_method_58_code (2 : Nat) (Option.some Jvm.ClassFile.FieldType.boolean)) ∈ lw_all := lw_g (lw_at lw_m6 39 rfl) rfl
theorem q1335 : (Jvm.Cond.methodLink "PlugHallLaw" (170 : Nat) ({ cls := "PlugHall", name := "use", desc := "(I)I" } : Jvm.MethodName)) ∈ lw_all := lw_g (lw_at lw_m6 40 rfl) rfl
theorem q1336 : (Jvm.Cond.instanceMethod ({ cls := "PlugHall", name := "use", desc := "(I)I" } : Jvm.MethodName)) ∈ lw_all := lw_g (lw_at lw_m6 41 rfl) rfl
theorem q1337 : (Jvm.Cond.selects "PlugHall" ({ cls := "PlugHall", name := "use", desc := "(I)I" } : Jvm.MethodName) ({ cls := "PlugHall", name := "use", desc := "(I)I" } : Jvm.MethodName)) ∈ lw_all := lw_g (lw_at lw_m6 42 rfl) rfl
theorem q1338 : (Jvm.Cond.code ({ cls := "PlugHall", name := "use", desc := "(I)I" } : Jvm.MethodName) prog_1_method_59_code (2 : Nat) (Option.some Jvm.ClassFile.FieldType.int)) ∈ lw_all := lw_g (lw_at lw_m6 43 rfl) rfl
theorem q1339 : (Jvm.Cond.methodLink "PlugHall" (386 : Nat) ({ cls := "PlugHall", name := "isKept", desc := "(I)Z" } : Jvm.MethodName)) ∈ lw_all := lw_g (lw_at lw_m6 44 rfl) rfl
theorem q1340 : (Jvm.Cond.privateMethod ({ cls := "PlugHall", name := "isKept", desc := "(I)Z" } : Jvm.MethodName)) ∈ lw_tbl := lw_at lw_m6 45 rfl
theorem q1341 : (Jvm.Cond.instanceMethod ({ cls := "PlugHall", name := "isKept", desc := "(I)Z" } : Jvm.MethodName)) ∈ lw_all := lw_g (lw_at lw_m6 46 rfl) rfl
theorem q1342 : (Jvm.Cond.code ({ cls := "PlugHall", name := "isKept", desc := "(I)Z" } : Jvm.MethodName) prog_1_method_57_code (2 : Nat) (Option.some Jvm.ClassFile.FieldType.boolean)) ∈ lw_all := lw_g (lw_at lw_m6 47 rfl) rfl
theorem q1343 : (Jvm.Cond.methodLink "PlugHallLaw" (174 : Nat) ({ cls := "PlugHall", name := "apart", desc := "(II)I" } : Jvm.MethodName)) ∈ lw_all := lw_g (lw_at lw_m6 48 rfl) rfl
theorem q1344 : (Jvm.Cond.instanceMethod ({ cls := "PlugHall", name := "apart", desc := "(II)I" } : Jvm.MethodName)) ∈ lw_all := lw_g (lw_at lw_m6 49 rfl) rfl
theorem q1345 : (Jvm.Cond.selects "PlugHall" ({ cls := "PlugHall", name := "apart", desc := "(II)I" } : Jvm.MethodName) ({ cls := "PlugHall", name := "apart", desc := "(II)I" } : Jvm.MethodName)) ∈ lw_all := lw_g (lw_at lw_m6 50 rfl) rfl
theorem q1346 : (Jvm.Cond.code ({ cls := "PlugHall", name := "apart", desc := "(II)I" } : Jvm.MethodName) prog_1_method_60_code (3 : Nat) (Option.some Jvm.ClassFile.FieldType.int)) ∈ lw_all := lw_g (lw_at lw_m6 51 rfl) rfl
theorem q1347 : (Jvm.Cond.methodLink "PlugHall" (389 : Nat) ({ cls := "PlugHall$Board", name := "apart", desc := "(LPlugHall$Board;)I" } : Jvm.MethodName)) ∈ lw_all := lw_g (lw_at lw_m6 52 rfl) rfl
theorem q1348 : (Jvm.Cond.instanceMethod ({ cls := "PlugHall$Board", name := "apart", desc := "(LPlugHall$Board;)I" } : Jvm.MethodName)) ∈ lw_all := lw_g (lw_at lw_m6 53 rfl) rfl
theorem q1349 : (Jvm.Cond.selects "PlugHall$Board" ({ cls := "PlugHall$Board", name := "apart", desc := "(LPlugHall$Board;)I" } : Jvm.MethodName) ({ cls := "PlugHall$Board", name := "apart", desc := "(LPlugHall$Board;)I" } : Jvm.MethodName)) ∈ lw_all := lw_g (lw_at lw_m6 54 rfl) rfl
theorem q1350 : (Jvm.Cond.code ({ cls := "PlugHall$Board", name := "apart", desc := "(LPlugHall$Board;)I" } : Jvm.MethodName) prog_2_method_6_code (2 : Nat) (Option.some Jvm.ClassFile.FieldType.int)) ∈ lw_all := lw_g (lw_at lw_m6 55 rfl) rfl
theorem q1351 : (Jvm.Cond.methodLink "PlugHall$Board" (30 : Nat) ({ cls := "PlugHall$Board", name := "beyond", desc := "(LPlugHall$Board;)I" } : Jvm.MethodName)) ∈ lw_all := lw_g (lw_at lw_m6 56 rfl) rfl
theorem q1352 : (Jvm.Cond.instanceMethod ({ cls := "PlugHall$Board", name := "beyond", desc := "(LPlugHall$Board;)I" } : Jvm.MethodName)) ∈ lw_all := lw_g (lw_at lw_m6 57 rfl) rfl
theorem q1353 : (Jvm.Cond.selects "PlugHall$Board" ({ cls := "PlugHall$Board", name := "beyond", desc := "(LPlugHall$Board;)I" } : Jvm.MethodName) ({ cls := "PlugHall$Board", name := "beyond", desc := "(LPlugHall$Board;)I" } : Jvm.MethodName)) ∈ lw_all := lw_g (lw_at lw_m6 58 rfl) rfl
theorem q1354 : (Jvm.Cond.code ({ cls := "PlugHall$Board", name := "beyond", desc := "(LPlugHall$Board;)I" } : Jvm.MethodName) prog_2_method_5_code (7 : Nat) (Option.some Jvm.ClassFile.FieldType.int)) ∈ lw_all := lw_g (lw_at lw_m6 59 rfl) rfl
theorem q1355 : (Jvm.Cond.methodLink "PlugHall$Board" (26 : Nat) ({ cls := "PlugHall$Board", name := "isLike", desc := "(ILPlugHall$Board;I)Z" } : Jvm.MethodName)) ∈ lw_all := lw_g (lw_at lw_m6 60 rfl) rfl
theorem q1356 : (Jvm.Cond.privateMethod ({ cls := "PlugHall$Board", name := "isLike", desc := "(ILPlugHall$Board;I)Z" } : Jvm.MethodName)) ∈ lw_tbl := lw_at lw_m6 61 rfl
theorem q1357 : (Jvm.Cond.instanceMethod ({ cls := "PlugHall$Board", name := "isLike", desc := "(ILPlugHall$Board;I)Z" } : Jvm.MethodName)) ∈ lw_all := lw_g (lw_at lw_m6 62 rfl) rfl
theorem q1358 : (Jvm.Cond.code ({ cls := "PlugHall$Board", name := "isLike", desc := "(ILPlugHall$Board;I)Z" } : Jvm.MethodName) prog_2_method_4_code (4 : Nat) (Option.some Jvm.ClassFile.FieldType.boolean)) ∈ lw_all := lw_g (lw_at lw_m6 63 rfl) rfl
theorem q1359 : (Jvm.Cond.methodLink "PlugHallLaw" (178 : Nat) ({ cls := "PlugHall", name := "friday", desc := "()I" } : Jvm.MethodName)) ∈ lw_all := lw_g (lw_at lw_m6 64 rfl) rfl
theorem q1360 : (Jvm.Cond.instanceMethod ({ cls := "PlugHall", name := "friday", desc := "()I" } : Jvm.MethodName)) ∈ lw_all := lw_g (lw_at lw_m6 65 rfl) rfl
theorem q1361 : (Jvm.Cond.selects "PlugHall" ({ cls := "PlugHall", name := "friday", desc := "()I" } : Jvm.MethodName) ({ cls := "PlugHall", name := "friday", desc := "()I" } : Jvm.MethodName)) ∈ lw_all := lw_g (lw_at lw_m6 66 rfl) rfl
theorem q1362 : (Jvm.Cond.code ({ cls := "PlugHall", name := "friday", desc := "()I" } : Jvm.MethodName) prog_1_method_62_code (6 : Nat) (Option.some Jvm.ClassFile.FieldType.int)) ∈ lw_all := lw_g (lw_at lw_m6 67 rfl) rfl
theorem q1363 : (Jvm.Cond.methodLink "PlugHall" (396 : Nat) ({ cls := "PlugHall", name := "plan", desc := "(IIII)V" } : Jvm.MethodName)) ∈ lw_all := lw_g (lw_at lw_m6 68 rfl) rfl
theorem q1364 : (Jvm.Cond.privateMethod ({ cls := "PlugHall", name := "plan", desc := "(IIII)V" } : Jvm.MethodName)) ∈ lw_tbl := lw_at lw_m6 69 rfl
theorem q1365 : (Jvm.Cond.instanceMethod ({ cls := "PlugHall", name := "plan", desc := "(IIII)V" } : Jvm.MethodName)) ∈ lw_all := lw_g (lw_at lw_m6 70 rfl) rfl
theorem q1366 : (Jvm.Cond.code ({ cls := "PlugHall", name := "plan", desc := "(IIII)V" } : Jvm.MethodName) prog_1_method_63_code (7 : Nat) (Option.none : Option Jvm.ClassFile.FieldType)) ∈ lw_all := lw_g (lw_at lw_m6 71 rfl) rfl
theorem q1367 : (Jvm.Cond.methodLink "PlugHall" (402 : Nat) ({ cls := "PlugHall", name := "two", desc := "(I)I" } : Jvm.MethodName)) ∈ lw_all := lw_g (lw_at lw_m6 72 rfl) rfl
theorem q1368 : (Jvm.Cond.privateMethod ({ cls := "PlugHall", name := "two", desc := "(I)I" } : Jvm.MethodName)) ∈ lw_tbl := lw_at lw_m6 73 rfl
theorem q1369 : (Jvm.Cond.instanceMethod ({ cls := "PlugHall", name := "two", desc := "(I)I" } : Jvm.MethodName)) ∈ lw_all := lw_g (lw_at lw_m6 74 rfl) rfl
theorem q1370 : (Jvm.Cond.code ({ cls := "PlugHall", name := "two", desc := "(I)I" } : Jvm.MethodName) prog_1_method_61_code (2 : Nat) (Option.some Jvm.ClassFile.FieldType.int)) ∈ lw_all := lw_g (lw_at lw_m6 75 rfl) rfl
theorem q1371 : (Jvm.Cond.methodLink "PlugHallLaw" (182 : Nat) ({ cls := "PlugHall", name := "fridayAt", desc := "(I)I" } : Jvm.MethodName)) ∈ lw_all := lw_g (lw_at lw_m6 76 rfl) rfl
theorem q1372 : (Jvm.Cond.instanceMethod ({ cls := "PlugHall", name := "fridayAt", desc := "(I)I" } : Jvm.MethodName)) ∈ lw_all := lw_g (lw_at lw_m6 77 rfl) rfl
theorem q1373 : (Jvm.Cond.selects "PlugHall" ({ cls := "PlugHall", name := "fridayAt", desc := "(I)I" } : Jvm.MethodName) ({ cls := "PlugHall", name := "fridayAt", desc := "(I)I" } : Jvm.MethodName)) ∈ lw_all := lw_g (lw_at lw_m6 78 rfl) rfl
theorem q1374 : (Jvm.Cond.code ({ cls := "PlugHall", name := "fridayAt", desc := "(I)I" } : Jvm.MethodName) prog_1_method_64_code (2 : Nat) (Option.some Jvm.ClassFile.FieldType.int)) ∈ lw_all := lw_g (lw_at lw_m6 79 rfl) rfl
theorem q1375 : (Jvm.Cond.methodLink "PlugHallLaw" (186 : Nat) ({ cls := "PlugHall", name := "count", desc := "(I)I" } : Jvm.MethodName)) ∈ lw_all := lw_g (lw_at lw_m6 80 rfl) rfl
theorem q1376 : (Jvm.Cond.instanceMethod ({ cls := "PlugHall", name := "count", desc := "(I)I" } : Jvm.MethodName)) ∈ lw_all := lw_g (lw_at lw_m6 81 rfl) rfl
theorem q1377 : (Jvm.Cond.selects "PlugHall" ({ cls := "PlugHall", name := "count", desc := "(I)I" } : Jvm.MethodName) ({ cls := "PlugHall", name := "count", desc := "(I)I" } : Jvm.MethodName)) ∈ lw_all := lw_g (lw_at lw_m6 82 rfl) rfl
theorem q1378 : (Jvm.Cond.code ({ cls := "PlugHall", name := "count", desc := "(I)I" } : Jvm.MethodName) prog_1_method_65_code (7 : Nat) (Option.some Jvm.ClassFile.FieldType.int)) ∈ lw_all := lw_g (lw_at lw_m6 83 rfl) rfl
theorem q1379 : (Jvm.Cond.methodLink "PlugHallLaw" (48 : Nat) ({ cls := "PlugHallLaw", name := "column", desc := "(LPlugHall;III[J)I" } : Jvm.MethodName)) ∈ lw_all := lw_g (lw_at lw_m6 84 rfl) rfl
theorem q1380 : (Jvm.Cond.static ({ cls := "PlugHallLaw", name := "column", desc := "(LPlugHall;III[J)I" } : Jvm.MethodName)) ∈ lw_all := lw_g (lw_at lw_m6 85 rfl) rfl
theorem q1381 : (Jvm.Cond.codeWith ({ cls := "PlugHallLaw", name := "column", desc := "(LPlugHall;III[J)I" } : Jvm.MethodName) method_3_code (6 : Nat) (Option.some Jvm.ClassFile.FieldType.int) [((0 : Nat), (12 : Nat), (15 : Nat), (13 : Nat))]) ∈ lw_all := lw_g (lw_at lw_m6 86 rfl) rfl
theorem q1382 : (Jvm.Cond.classLink "PlugHallLaw" (13 : Nat) "java/util/NoSuchElementException") ∈ lw_all := lw_g (lw_at lw_m6 87 rfl) rfl
theorem q1383 : (Jvm.Cond.methodLink "PlugHallLaw" (7 : Nat) ({ cls := "PlugHall", name := "column", desc := "(III)I" } : Jvm.MethodName)) ∈ lw_all := lw_g (lw_at lw_m6 88 rfl) rfl
theorem q1384 : (Jvm.Cond.instanceMethod ({ cls := "PlugHall", name := "column", desc := "(III)I" } : Jvm.MethodName)) ∈ lw_all := lw_g (lw_at lw_m6 89 rfl) rfl
theorem q1385 : (Jvm.Cond.selects "PlugHall" ({ cls := "PlugHall", name := "column", desc := "(III)I" } : Jvm.MethodName) ({ cls := "PlugHall", name := "column", desc := "(III)I" } : Jvm.MethodName)) ∈ lw_all := lw_g (lw_at lw_m6 90 rfl) rfl
theorem q1386 : (Jvm.Cond.code ({ cls := "PlugHall", name := "column", desc := "(III)I" } : Jvm.MethodName) prog_1_method_14_code (4 : Nat) (Option.some Jvm.ClassFile.FieldType.int)) ∈ lw_all := lw_g (lw_at lw_m6 91 rfl) rfl
theorem q1387 : (Jvm.Cond.methodLink "PlugHall" (146 : Nat) ({ cls := "PlugHall", name := "need", desc := "(Z)V" } : Jvm.MethodName)) ∈ lw_all := lw_g (lw_at lw_m6 92 rfl) rfl
theorem q1388 : (Jvm.Cond.static ({ cls := "PlugHall", name := "need", desc := "(Z)V" } : Jvm.MethodName)) ∈ lw_all := lw_g (lw_at lw_m6 93 rfl) rfl
theorem q1389 : (Jvm.Cond.code ({ cls := "PlugHall", name := "need", desc := "(Z)V" } : Jvm.MethodName) prog_1_method_13_code (1 : Nat) (Option.none : Option Jvm.ClassFile.FieldType)) ∈ lw_all := lw_g (lw_at lw_m6 94 rfl) rfl
theorem q1390 : (Jvm.Cond.classLink "PlugHall" (143 : Nat) "java/util/NoSuchElementException") ∈ lw_all := lw_g (lw_at lw_m6 95 rfl) rfl
theorem q1391 : (Jvm.Cond.instantiable "java/util/NoSuchElementException" (6 : Nat)) ∈ lw_all := lw_g (lw_at lw_m6 96 rfl) rfl
theorem q1392 : (Jvm.Cond.castable "java/util/NoSuchElementException" "java/util/NoSuchElementException") ∈ lw_tbl := lw_at lw_m6 97 rfl
theorem q1393 : (Jvm.Cond.declares ({ cls := "java/lang/RuntimeException", name := "<init>", desc := "()V" } : Jvm.MethodName)) ∈ lw_tbl := lw_at lw_m6 98 rfl
theorem q1394 : (Jvm.Cond.declares ({ cls := "java/lang/RuntimeException", name := "<init>", desc := "(Ljava/lang/String;)V" } : Jvm.MethodName)) ∈ lw_tbl := lw_at lw_m6 99 rfl
theorem q1395 : (Jvm.Cond.selects "java/util/NoSuchElementException" ({ cls := "java/lang/Throwable", name := "fillInStackTrace", desc := "(I)Ljava/lang/Throwable;" } : Jvm.MethodName) ({ cls := "java/lang/Throwable", name := "fillInStackTrace", desc := "(I)Ljava/lang/Throwable;" } : Jvm.MethodName)) ∈ lw_all := lw_g (lw_at lw_m6 100 rfl) rfl
theorem q1396 : (Jvm.Cond.lays "java/util/NoSuchElementException" "java/lang/Throwable" "cause" "Ljava/lang/Throwable;") ∈ lw_all := lw_g (lw_at lw_m6 101 rfl) rfl
theorem q1397 : (Jvm.Cond.lays "java/util/NoSuchElementException" "java/lang/Throwable" "stackTrace" "[Ljava/lang/StackTraceElement;") ∈ lw_all := lw_g (lw_at lw_m6 102 rfl) rfl
theorem q1398 : (Jvm.Cond.lays "java/util/NoSuchElementException" "java/lang/Throwable" "suppressedExceptions" "Ljava/util/List;") ∈ lw_all := lw_g (lw_at lw_m6 103 rfl) rfl
theorem q1399 : (Jvm.Cond.lays "java/util/NoSuchElementException" "java/lang/Throwable" "detailMessage" "Ljava/lang/String;") ∈ lw_all := lw_g (lw_at lw_m6 104 rfl) rfl
theorem q1400 : (Jvm.Cond.lays "java/util/NoSuchElementException" "java/lang/Throwable" "backtrace" "Ljava/lang/Object;") ∈ lw_all := lw_g (lw_at lw_m6 105 rfl) rfl
theorem q1401 : (Jvm.Cond.methodLink "PlugHall" (145 : Nat) ({ cls := "java/util/NoSuchElementException", name := "<init>", desc := "()V" } : Jvm.MethodName)) ∈ lw_all := lw_g (lw_at lw_m6 106 rfl) rfl
theorem q1402 : (Jvm.Cond.instanceMethod ({ cls := "java/util/NoSuchElementException", name := "<init>", desc := "()V" } : Jvm.MethodName)) ∈ lw_all := lw_g (lw_at lw_m6 107 rfl) rfl
theorem q1403 : (Jvm.Cond.code ({ cls := "java/util/NoSuchElementException", name := "<init>", desc := "()V" } : Jvm.MethodName) prog_28_method_1_code (1 : Nat) (Option.none : Option Jvm.ClassFile.FieldType)) ∈ lw_all := lw_g (lw_at lw_m6 108 rfl) rfl
theorem q1404 : (Jvm.Cond.methodLink "java/util/NoSuchElementException" (1 : Nat) ({ cls := "java/lang/RuntimeException", name := "<init>", desc := "()V" } : Jvm.MethodName)) ∈ lw_all := lw_g (lw_at lw_m6 109 rfl) rfl
theorem q1405 : (Jvm.Cond.instanceMethod ({ cls := "java/lang/RuntimeException", name := "<init>", desc := "()V" } : Jvm.MethodName)) ∈ lw_all := lw_g (lw_at lw_m6 110 rfl) rfl
theorem q1406 : (Jvm.Cond.code ({ cls := "java/lang/RuntimeException", name := "<init>", desc := "()V" } : Jvm.MethodName) prog_20_method_1_code (1 : Nat) (Option.none : Option Jvm.ClassFile.FieldType)) ∈ lw_all := lw_g (lw_at lw_m6 111 rfl) rfl
theorem q1407 : (Jvm.Cond.methodLink "java/lang/RuntimeException" (1 : Nat) ({ cls := "java/lang/Exception", name := "<init>", desc := "()V" } : Jvm.MethodName)) ∈ lw_all := lw_g (lw_at lw_m6 112 rfl) rfl
theorem q1408 : (Jvm.Cond.lays "java/util/NoSuchElementException" "java/lang/Throwable" "depth" "I") ∈ lw_all := lw_g (lw_at lw_m6 113 rfl) rfl
theorem q1409 : (Jvm.Cond.superclass "java/util/NoSuchElementException" "java/lang/RuntimeException") ∈ lw_all := lw_g (lw_at lw_m6 114 rfl) rfl
theorem q1410 : (Jvm.Cond.methodLink "PlugHallLaw" (78 : Nat) ({ cls := "PlugHallLaw", name := "bar", desc := "(LPlugHall;II[J)I" } : Jvm.MethodName)) ∈ lw_all := lw_g (lw_at lw_m6 115 rfl) rfl
theorem q1411 : (Jvm.Cond.static ({ cls := "PlugHallLaw", name := "bar", desc := "(LPlugHall;II[J)I" } : Jvm.MethodName)) ∈ lw_all := lw_g (lw_at lw_m6 116 rfl) rfl
theorem q1412 : (Jvm.Cond.codeWith ({ cls := "PlugHallLaw", name := "bar", desc := "(LPlugHall;II[J)I" } : Jvm.MethodName) method_4_code (5 : Nat) (Option.some Jvm.ClassFile.FieldType.int) [((0 : Nat), (10 : Nat), (13 : Nat), (13 : Nat))]) ∈ lw_all := lw_g (lw_at lw_m6 117 rfl) rfl
theorem q1413 : (Jvm.Cond.methodLink "PlugHallLaw" (15 : Nat) ({ cls := "PlugHall", name := "bar", desc := "(II)I" } : Jvm.MethodName)) ∈ lw_all := lw_g (lw_at lw_m6 118 rfl) rfl
theorem q1414 : (Jvm.Cond.instanceMethod ({ cls := "PlugHall", name := "bar", desc := "(II)I" } : Jvm.MethodName)) ∈ lw_all := lw_g (lw_at lw_m6 119 rfl) rfl
theorem q1415 : (Jvm.Cond.selects "PlugHall" ({ cls := "PlugHall", name := "bar", desc := "(II)I" } : Jvm.MethodName) ({ cls := "PlugHall", name := "bar", desc := "(II)I" } : Jvm.MethodName)) ∈ lw_all := lw_g (lw_at lw_m6 120 rfl) rfl
theorem q1416 : (Jvm.Cond.code ({ cls := "PlugHall", name := "bar", desc := "(II)I" } : Jvm.MethodName) prog_1_method_20_code (3 : Nat) (Option.some Jvm.ClassFile.FieldType.int)) ∈ lw_all := lw_g (lw_at lw_m6 121 rfl) rfl
theorem q1417 : (Jvm.Cond.methodLink "PlugHallLaw" (82 : Nat) ({ cls := "PlugHallLaw", name := "wheel", desc := "(LPlugHall;I[J)I" } : Jvm.MethodName)) ∈ lw_all := lw_g (lw_at lw_m6 122 rfl) rfl
theorem q1418 : (Jvm.Cond.static ({ cls := "PlugHallLaw", name := "wheel", desc := "(LPlugHall;I[J)I" } : Jvm.MethodName)) ∈ lw_all := lw_g (lw_at lw_m6 123 rfl) rfl
theorem q1419 : (Jvm.Cond.codeWith ({ cls := "PlugHallLaw", name := "wheel", desc := "(LPlugHall;I[J)I" } : Jvm.MethodName) method_5_code (4 : Nat) (Option.some Jvm.ClassFile.FieldType.int) [((0 : Nat), (9 : Nat), (12 : Nat), (13 : Nat))]) ∈ lw_all := lw_g (lw_at lw_m6 124 rfl) rfl
theorem q1420 : (Jvm.Cond.methodLink "PlugHallLaw" (19 : Nat) ({ cls := "PlugHall", name := "wheel", desc := "(I)I" } : Jvm.MethodName)) ∈ lw_all := lw_g (lw_at lw_m6 125 rfl) rfl
theorem q1421 : (Jvm.Cond.instanceMethod ({ cls := "PlugHall", name := "wheel", desc := "(I)I" } : Jvm.MethodName)) ∈ lw_all := lw_g (lw_at lw_m6 126 rfl) rfl
theorem q1422 : (Jvm.Cond.selects "PlugHall" ({ cls := "PlugHall", name := "wheel", desc := "(I)I" } : Jvm.MethodName) ({ cls := "PlugHall", name := "wheel", desc := "(I)I" } : Jvm.MethodName)) ∈ lw_all := lw_g (lw_at lw_m6 127 rfl) rfl
theorem q1423 : (Jvm.Cond.code ({ cls := "PlugHall", name := "wheel", desc := "(I)I" } : Jvm.MethodName) prog_1_method_21_code (2 : Nat) (Option.some Jvm.ClassFile.FieldType.int)) ∈ lw_all := lw_g (lw_at lw_m6 128 rfl) rfl
theorem q1424 : (Jvm.Cond.methodLink "PlugHallLaw" (135 : Nat) ({ cls := "PlugHallLaw", name := "wantedAt", desc := "(LPlugHall;II[J)I" } : Jvm.MethodName)) ∈ lw_all := lw_g (lw_at lw_m6 129 rfl) rfl
theorem q1425 : (Jvm.Cond.static ({ cls := "PlugHallLaw", name := "wantedAt", desc := "(LPlugHall;II[J)I" } : Jvm.MethodName)) ∈ lw_all := lw_g (lw_at lw_m6 130 rfl) rfl
theorem q1426 : (Jvm.Cond.codeWith ({ cls := "PlugHallLaw", name := "wantedAt", desc := "(LPlugHall;II[J)I" } : Jvm.MethodName) method_6_code (5 : Nat) (Option.some Jvm.ClassFile.FieldType.int) [((0 : Nat), (10 : Nat), (13 : Nat), (13 : Nat))]) ∈ lw_all := lw_g (lw_at lw_m6 131 rfl) rfl
theorem q1427 : (Jvm.Cond.methodLink "PlugHallLaw" (23 : Nat) ({ cls := "PlugHall", name := "wantedAt", desc := "(II)I" } : Jvm.MethodName)) ∈ lw_all := lw_g (lw_at lw_m6 132 rfl) rfl
theorem q1428 : (Jvm.Cond.instanceMethod ({ cls := "PlugHall", name := "wantedAt", desc := "(II)I" } : Jvm.MethodName)) ∈ lw_all := lw_g (lw_at lw_m6 133 rfl) rfl
theorem q1429 : (Jvm.Cond.selects "PlugHall" ({ cls := "PlugHall", name := "wantedAt", desc := "(II)I" } : Jvm.MethodName) ({ cls := "PlugHall", name := "wantedAt", desc := "(II)I" } : Jvm.MethodName)) ∈ lw_all := lw_g (lw_at lw_m6 134 rfl) rfl
theorem q1430 : (Jvm.Cond.code ({ cls := "PlugHall", name := "wantedAt", desc := "(II)I" } : Jvm.MethodName) prog_1_method_45_code (3 : Nat) (Option.some Jvm.ClassFile.FieldType.int)) ∈ lw_all := lw_g (lw_at lw_m6 135 rfl) rfl
theorem q1431 : (Jvm.Cond.classLink "PlugHallLaw" (27 : Nat) "PlugHallModel") ∈ lw_all := lw_g (lw_at lw_m6 136 rfl) rfl
theorem q1432 : (Jvm.Cond.instantiable "PlugHallModel" (92 : Nat)) ∈ lw_all := lw_g (lw_at lw_m6 137 rfl) rfl
theorem q1433 : (Jvm.Cond.methodLink "PlugHallLaw" (29 : Nat) ({ cls := "PlugHallModel", name := "<init>", desc := "()V" } : Jvm.MethodName)) ∈ lw_all := lw_g (lw_at lw_m6 138 rfl) rfl
theorem q1434 : (Jvm.Cond.instanceMethod ({ cls := "PlugHallModel", name := "<init>", desc := "()V" } : Jvm.MethodName)) ∈ lw_all := lw_g (lw_at lw_m6 139 rfl) rfl
theorem q1435 : (Jvm.Cond.code ({ cls := "PlugHallModel", name := "<init>", desc := "()V" } : Jvm.MethodName) prog_14_method_1_code (1 : Nat) (Option.none : Option Jvm.ClassFile.FieldType)) ∈ lw_all := lw_g (lw_at lw_m6 140 rfl) rfl
theorem q1436 : (Jvm.Cond.methodLink "PlugHallModel" (1 : Nat) ({ cls := "java/lang/Object", name := "<init>", desc := "()V" } : Jvm.MethodName)) ∈ lw_all := lw_g (lw_at lw_m6 141 rfl) rfl
theorem q1437 : (Jvm.Cond.fieldLink "PlugHallModel" (190 : Nat) "PlugHallModel" "thrown" "I") ∈ lw_all := lw_g (lw_at lw_m6 142 rfl) rfl
theorem q1438 : (Jvm.Cond.fieldLink "PlugHallModel" (7 : Nat) "PlugHallModel" "tape" "[B") ∈ lw_all := lw_g (lw_at lw_m6 143 rfl) rfl
theorem q1439 : (Jvm.Cond.fieldLink "PlugHallModel" (194 : Nat) "PlugHallModel" "length" "I") ∈ lw_all := lw_g (lw_at lw_m6 144 rfl) rfl
theorem q1440 : (Jvm.Cond.fieldLink "PlugHallModel" (201 : Nat) "PlugHallModel" "size" "I") ∈ lw_all := lw_g (lw_at lw_m6 145 rfl) rfl
theorem q1441 : (Jvm.Cond.fieldLink "PlugHallModel" (204 : Nat) "PlugHallModel" "p" "I") ∈ lw_all := lw_g (lw_at lw_m6 146 rfl) rfl
theorem q1442 : (Jvm.Cond.fieldLink "PlugHallModel" (13 : Nat) "PlugHallModel" "cards" "[I") ∈ lw_all := lw_g (lw_at lw_m6 147 rfl) rfl
theorem q1443 : (Jvm.Cond.fieldLink "PlugHallModel" (17 : Nat) "PlugHallModel" "many" "[I") ∈ lw_all := lw_g (lw_at lw_m6 148 rfl) rfl
theorem q1444 : (Jvm.Cond.fieldLink "PlugHallModel" (236 : Nat) "PlugHallModel" "token" "I") ∈ lw_all := lw_g (lw_at lw_m6 149 rfl) rfl
theorem q1445 : (Jvm.Cond.fieldLink "PlugHallModel" (230 : Nat) "PlugHallModel" "at" "I") ∈ lw_all := lw_g (lw_at lw_m6 150 rfl) rfl
theorem q1446 : (Jvm.Cond.fieldLink "PlugHallModel" (243 : Nat) "PlugHallModel" "number" "I") ∈ lw_all := lw_g (lw_at lw_m6 151 rfl) rfl
theorem q1447 : (Jvm.Cond.fieldLink "PlugHallModel" (252 : Nat) "PlugHallModel" "fault" "I") ∈ lw_all := lw_g (lw_at lw_m6 152 rfl) rfl
theorem q1448 : (Jvm.Cond.fieldLink "PlugHallModel" (255 : Nat) "PlugHallModel" "faultAt" "I") ∈ lw_all := lw_g (lw_at lw_m6 153 rfl) rfl
theorem q1449 : (Jvm.Cond.fieldLink "PlugHallModel" (233 : Nat) "PlugHallModel" "limit" "I") ∈ lw_all := lw_g (lw_at lw_m6 154 rfl) rfl
theorem q1450 : (Jvm.Cond.fieldLink "PlugHallModel" (239 : Nat) "PlugHallModel" "word" "J") ∈ lw_all := lw_g (lw_at lw_m6 155 rfl) rfl
theorem q1451 : (Jvm.Cond.fieldLink "PlugHallModel" (265 : Nat) "PlugHallModel" "told" "I") ∈ lw_all := lw_g (lw_at lw_m6 156 rfl) rfl
theorem q1452 : (Jvm.Cond.fieldLink "PlugHallModel" (20 : Nat) "PlugHallModel" "one" "[I") ∈ lw_all := lw_g (lw_at lw_m6 157 rfl) rfl
theorem q1453 : (Jvm.Cond.fieldLink "PlugHallModel" (23 : Nat) "PlugHallModel" "two" "[I") ∈ lw_all := lw_g (lw_at lw_m6 158 rfl) rfl
theorem q1454 : (Jvm.Cond.fieldLink "PlugHallModel" (26 : Nat) "PlugHallModel" "wires" "[I") ∈ lw_all := lw_g (lw_at lw_m6 159 rfl) rfl
theorem q1455 : (Jvm.Cond.fieldLink "PlugHallModel" (29 : Nat) "PlugHallModel" "ends" "[I") ∈ lw_all := lw_g (lw_at lw_m6 160 rfl) rfl
theorem q1456 : (Jvm.Cond.fieldLink "PlugHallModel" (32 : Nat) "PlugHallModel" "isKept" "[Z") ∈ lw_all := lw_g (lw_at lw_m6 161 rfl) rfl
theorem q1457 : (Jvm.Cond.fieldLink "PlugHallModel" (282 : Nat) "PlugHallModel" "first" "I") ∈ lw_all := lw_g (lw_at lw_m6 162 rfl) rfl
theorem q1458 : (Jvm.Cond.fieldLink "PlugHallModel" (271 : Nat) "PlugHallModel" "reaches" "I") ∈ lw_all := lw_g (lw_at lw_m6 163 rfl) rfl
theorem q1459 : (Jvm.Cond.fieldLink "PlugHallModel" (268 : Nat) "PlugHallModel" "inner" "I") ∈ lw_all := lw_g (lw_at lw_m6 164 rfl) rfl
theorem q1460 : (Jvm.Cond.fieldLink "PlugHallModel" (36 : Nat) "PlugHallModel" "deck" "[I") ∈ lw_all := lw_g (lw_at lw_m6 165 rfl) rfl
theorem q1461 : (Jvm.Cond.fieldLink "PlugHallModel" (39 : Nat) "PlugHallModel" "gives" "[I") ∈ lw_all := lw_g (lw_at lw_m6 166 rfl) rfl
theorem q1462 : (Jvm.Cond.fieldLink "PlugHallModel" (42 : Nat) "PlugHallModel" "plain" "[I") ∈ lw_all := lw_g (lw_at lw_m6 167 rfl) rfl
theorem q1463 : (Jvm.Cond.fieldLink "PlugHallModel" (45 : Nat) "PlugHallModel" "label" "[I") ∈ lw_all := lw_g (lw_at lw_m6 168 rfl) rfl
theorem q1464 : (Jvm.Cond.fieldLink "PlugHallModel" (48 : Nat) "PlugHallModel" "firstOf" "[I") ∈ lw_all := lw_g (lw_at lw_m6 169 rfl) rfl
theorem q1465 : (Jvm.Cond.fieldLink "PlugHallModel" (51 : Nat) "PlugHallModel" "countOf" "[I") ∈ lw_all := lw_g (lw_at lw_m6 170 rfl) rfl
theorem q1466 : (Jvm.Cond.fieldLink "PlugHallModel" (54 : Nat) "PlugHallModel" "picked" "[Z") ∈ lw_all := lw_g (lw_at lw_m6 171 rfl) rfl
theorem q1467 : (Jvm.Cond.fieldLink "PlugHallModel" (57 : Nat) "PlugHallModel" "end" "[I") ∈ lw_all := lw_g (lw_at lw_m6 172 rfl) rfl
theorem q1468 : (Jvm.Cond.fieldLink "PlugHallModel" (60 : Nat) "PlugHallModel" "lines" "[I") ∈ lw_all := lw_g (lw_at lw_m6 173 rfl) rfl
theorem q1469 : (Jvm.Cond.fieldLink "PlugHallModel" (63 : Nat) "PlugHallModel" "punched" "[I") ∈ lw_all := lw_g (lw_at lw_m6 174 rfl) rfl
theorem q1470 : (Jvm.Cond.fieldLink "PlugHallModel" (66 : Nat) "PlugHallModel" "prints" "[I") ∈ lw_all := lw_g (lw_at lw_m6 175 rfl) rfl
theorem q1471 : (Jvm.Cond.fieldLink "PlugHallModel" (69 : Nat) "PlugHallModel" "wheels" "[I") ∈ lw_all := lw_g (lw_at lw_m6 176 rfl) rfl
theorem q1472 : (Jvm.Cond.fieldLink "PlugHallModel" (72 : Nat) "PlugHallModel" "punches" "[I") ∈ lw_all := lw_g (lw_at lw_m6 177 rfl) rfl
theorem q1473 : (Jvm.Cond.fieldLink "PlugHallModel" (75 : Nat) "PlugHallModel" "ranCards" "[I") ∈ lw_all := lw_g (lw_at lw_m6 178 rfl) rfl
theorem q1474 : (Jvm.Cond.fieldLink "PlugHallModel" (78 : Nat) "PlugHallModel" "ranTotals" "[I") ∈ lw_all := lw_g (lw_at lw_m6 179 rfl) rfl
theorem q1475 : (Jvm.Cond.fieldLink "PlugHallModel" (81 : Nat) "PlugHallModel" "overs" "[I") ∈ lw_all := lw_g (lw_at lw_m6 180 rfl) rfl
theorem q1476 : (Jvm.Cond.fieldLink "PlugHallModel" (84 : Nat) "PlugHallModel" "jamOne" "[I") ∈ lw_all := lw_g (lw_at lw_m6 181 rfl) rfl
theorem q1477 : (Jvm.Cond.fieldLink "PlugHallModel" (87 : Nat) "PlugHallModel" "jamTwo" "[I") ∈ lw_all := lw_g (lw_at lw_m6 182 rfl) rfl
theorem q1478 : (Jvm.Cond.fieldLink "PlugHallModel" (350 : Nat) "PlugHallModel" "deckMany" "I") ∈ lw_all := lw_g (lw_at lw_m6 183 rfl) rfl
theorem q1479 : (Jvm.Cond.fieldLink "PlugHallModel" (353 : Nat) "PlugHallModel" "without" "I") ∈ lw_all := lw_g (lw_at lw_m6 184 rfl) rfl
theorem q1480 : (Jvm.Cond.fieldLink "PlugHallModel" (364 : Nat) "PlugHallModel" "room" "I") ∈ lw_all := lw_g (lw_at lw_m6 185 rfl) rfl
theorem q1481 : (Jvm.Cond.fieldLink "PlugHallModel" (409 : Nat) "PlugHallModel" "wasRun" "Z") ∈ lw_all := lw_g (lw_at lw_m6 186 rfl) rfl
theorem q1482 : (Jvm.Cond.fieldLink "PlugHallModel" (90 : Nat) "PlugHallModel" "order" "[I") ∈ lw_all := lw_g (lw_at lw_m6 187 rfl) rfl
theorem q1483 : (Jvm.Cond.fieldLink "PlugHallModel" (93 : Nat) "PlugHallModel" "moved" "[I") ∈ lw_all := lw_g (lw_at lw_m6 188 rfl) rfl
theorem q1484 : (Jvm.Cond.fieldLink "PlugHallModel" (423 : Nat) "PlugHallModel" "passSet" "I") ∈ lw_all := lw_g (lw_at lw_m6 189 rfl) rfl
theorem q1485 : (Jvm.Cond.fieldLink "PlugHallModel" (96 : Nat) "PlugHallModel" "listed" "[I") ∈ lw_all := lw_g (lw_at lw_m6 190 rfl) rfl
theorem q1486 : (Jvm.Cond.fieldLink "PlugHallModel" (99 : Nat) "PlugHallModel" "unseenCards" "[I") ∈ lw_all := lw_g (lw_at lw_m6 191 rfl) rfl
theorem q1487 : (Jvm.Cond.fieldLink "PlugHallModel" (102 : Nat) "PlugHallModel" "wanted" "[I") ∈ lw_all := lw_g (lw_at lw_m6 192 rfl) rfl
theorem q1488 : (Jvm.Cond.fieldLink "PlugHallModel" (105 : Nat) "PlugHallModel" "sawMany" "[I") ∈ lw_all := lw_g (lw_at lw_m6 193 rfl) rfl
theorem q1489 : (Jvm.Cond.fieldLink "PlugHallModel" (108 : Nat) "PlugHallModel" "shows" "[J") ∈ lw_all := lw_g (lw_at lw_m6 194 rfl) rfl
theorem q1490 : (Jvm.Cond.fieldLink "PlugHallModel" (426 : Nat) "PlugHallModel" "listMany" "I") ∈ lw_all := lw_g (lw_at lw_m6 195 rfl) rfl
theorem q1491 : (Jvm.Cond.fieldLink "PlugHallModel" (447 : Nat) "PlugHallModel" "unseenMany" "I") ∈ lw_all := lw_g (lw_at lw_m6 196 rfl) rfl
theorem q1492 : (Jvm.Cond.fieldLink "PlugHallModel" (432 : Nat) "PlugHallModel" "wantMany" "I") ∈ lw_all := lw_g (lw_at lw_m6 197 rfl) rfl
theorem q1493 : (Jvm.Cond.fieldLink "PlugHallModel" (441 : Nat) "PlugHallModel" "testSet" "I") ∈ lw_all := lw_g (lw_at lw_m6 198 rfl) rfl
theorem q1494 : (Jvm.Cond.fieldLink "PlugHallModel" (444 : Nat) "PlugHallModel" "testShown" "I") ∈ lw_all := lw_g (lw_at lw_m6 199 rfl) rfl
theorem q1495 : (Jvm.Cond.fieldLink "PlugHallModel" (112 : Nat) "PlugHallModel" "moveWire" "[I") ∈ lw_all := lw_g (lw_at lw_m6 200 rfl) rfl
theorem q1496 : (Jvm.Cond.fieldLink "PlugHallModel" (115 : Nat) "PlugHallModel" "moveEnd" "[I") ∈ lw_all := lw_g (lw_at lw_m6 201 rfl) rfl
theorem q1497 : (Jvm.Cond.fieldLink "PlugHallModel" (118 : Nat) "PlugHallModel" "moveHub" "[I") ∈ lw_all := lw_g (lw_at lw_m6 202 rfl) rfl
theorem q1498 : (Jvm.Cond.fieldLink "PlugHallModel" (457 : Nat) "PlugHallModel" "moveMany" "I") ∈ lw_all := lw_g (lw_at lw_m6 203 rfl) rfl
theorem q1499 : (Jvm.Cond.fieldLink "PlugHallModel" (121 : Nat) "PlugHallModel" "fields" "[I") ∈ lw_all := lw_g (lw_at lw_m6 204 rfl) rfl
theorem q1500 : (Jvm.Cond.fieldLink "PlugHallModel" (124 : Nat) "PlugHallModel" "fieldFrom" "[I") ∈ lw_all := lw_g (lw_at lw_m6 205 rfl) rfl
theorem q1501 : (Jvm.Cond.fieldLink "PlugHallModel" (127 : Nat) "PlugHallModel" "fieldTo" "[I") ∈ lw_all := lw_g (lw_at lw_m6 206 rfl) rfl
theorem q1502 : (Jvm.Cond.fieldLink "PlugHallModel" (130 : Nat) "PlugHallModel" "breakAt" "[I") ∈ lw_all := lw_g (lw_at lw_m6 207 rfl) rfl
theorem q1503 : (Jvm.Cond.fieldLink "PlugHallModel" (133 : Nat) "PlugHallModel" "wantCount" "[I") ∈ lw_all := lw_g (lw_at lw_m6 208 rfl) rfl
theorem q1504 : (Jvm.Cond.fieldLink "PlugHallModel" (136 : Nat) "PlugHallModel" "wantField" "[I") ∈ lw_all := lw_g (lw_at lw_m6 209 rfl) rfl
theorem q1505 : (Jvm.Cond.fieldLink "PlugHallModel" (139 : Nat) "PlugHallModel" "wantDigits" "[I") ∈ lw_all := lw_g (lw_at lw_m6 210 rfl) rfl
theorem q1506 : (Jvm.Cond.fieldLink "PlugHallModel" (142 : Nat) "PlugHallModel" "wantOrder" "[I") ∈ lw_all := lw_g (lw_at lw_m6 211 rfl) rfl
theorem q1507 : (Jvm.Cond.fieldLink "PlugHallModel" (145 : Nat) "PlugHallModel" "wantOver" "[I") ∈ lw_all := lw_g (lw_at lw_m6 212 rfl) rfl
theorem q1508 : (Jvm.Cond.fieldLink "PlugHallModel" (148 : Nat) "PlugHallModel" "fieldName" "[J") ∈ lw_all := lw_g (lw_at lw_m6 213 rfl) rfl
theorem q1509 : (Jvm.Cond.fieldLink "PlugHallModel" (151 : Nat) "PlugHallModel" "madeOne" "[I") ∈ lw_all := lw_g (lw_at lw_m6 214 rfl) rfl
theorem q1510 : (Jvm.Cond.fieldLink "PlugHallModel" (154 : Nat) "PlugHallModel" "madeTwo" "[I") ∈ lw_all := lw_g (lw_at lw_m6 215 rfl) rfl
theorem q1511 : (Jvm.Cond.fieldLink "PlugHallModel" (157 : Nat) "PlugHallModel" "relayFor" "[I") ∈ lw_all := lw_g (lw_at lw_m6 216 rfl) rfl
theorem q1512 : (Jvm.Cond.fieldLink "PlugHallModel" (160 : Nat) "PlugHallModel" "relayPoints" "[I") ∈ lw_all := lw_g (lw_at lw_m6 217 rfl) rfl
theorem q1513 : (Jvm.Cond.fieldLink "PlugHallModel" (163 : Nat) "PlugHallModel" "parts" "[I") ∈ lw_all := lw_g (lw_at lw_m6 218 rfl) rfl
theorem q1514 : (Jvm.Cond.fieldLink "PlugHallModel" (166 : Nat) "PlugHallModel" "firstPart" "[I") ∈ lw_all := lw_g (lw_at lw_m6 219 rfl) rfl
theorem q1515 : (Jvm.Cond.fieldLink "PlugHallModel" (169 : Nat) "PlugHallModel" "fits" "[Z") ∈ lw_all := lw_g (lw_at lw_m6 220 rfl) rfl
theorem q1516 : (Jvm.Cond.fieldLink "PlugHallModel" (491 : Nat) "PlugHallModel" "madeMany" "I") ∈ lw_all := lw_g (lw_at lw_m6 221 rfl) rfl
theorem q1517 : (Jvm.Cond.fieldLink "PlugHallModel" (494 : Nat) "PlugHallModel" "relayMany" "I") ∈ lw_all := lw_g (lw_at lw_m6 222 rfl) rfl
theorem q1518 : (Jvm.Cond.fieldLink "PlugHallModel" (497 : Nat) "PlugHallModel" "tooMany" "Z") ∈ lw_all := lw_g (lw_at lw_m6 223 rfl) rfl
theorem q1519 : (Jvm.Cond.fieldLink "PlugHallModel" (172 : Nat) "PlugHallModel" "due" "[I") ∈ lw_all := lw_g (lw_at lw_m6 224 rfl) rfl
theorem q1520 : (Jvm.Cond.fieldLink "PlugHallModel" (175 : Nat) "PlugHallModel" "worth" "[I") ∈ lw_all := lw_g (lw_at lw_m6 225 rfl) rfl
theorem q1521 : (Jvm.Cond.fieldLink "PlugHallModel" (530 : Nat) "PlugHallModel" "dueMany" "I") ∈ lw_all := lw_g (lw_at lw_m6 226 rfl) rfl
theorem q1522 : (Jvm.Cond.fieldLink "PlugHallModel" (518 : Nat) "PlugHallModel" "dueAll" "I") ∈ lw_all := lw_g (lw_at lw_m6 227 rfl) rfl
theorem q1523 : (Jvm.Cond.fieldLink "PlugHallModel" (533 : Nat) "PlugHallModel" "wasWanted" "Z") ∈ lw_all := lw_g (lw_at lw_m6 228 rfl) rfl
theorem q1524 : (Jvm.Cond.fieldLink "PlugHallModel" (178 : Nat) "PlugHallModel" "kept" "[I") ∈ lw_all := lw_g (lw_at lw_m6 229 rfl) rfl
theorem q1525 : (Jvm.Cond.fieldLink "PlugHallModel" (181 : Nat) "PlugHallModel" "plays" "[I") ∈ lw_all := lw_g (lw_at lw_m6 230 rfl) rfl
theorem q1526 : (Jvm.Cond.fieldLink "PlugHallModel" (184 : Nat) "PlugHallModel" "best" "[I") ∈ lw_all := lw_g (lw_at lw_m6 231 rfl) rfl
theorem q1527 : (Jvm.Cond.fieldLink "PlugHallModel" (550 : Nat) "PlugHallModel" "bestMany" "I") ∈ lw_all := lw_g (lw_at lw_m6 232 rfl) rfl
theorem q1528 : (Jvm.Cond.fieldLink "PlugHallModel" (187 : Nat) "PlugHallModel" "isPaired" "[Z") ∈ lw_all := lw_g (lw_at lw_m6 233 rfl) rfl
theorem q1529 : (Jvm.Cond.lays "PlugHallModel" "PlugHallModel" "thrown" "I") ∈ lw_all := lw_g (lw_at lw_m6 234 rfl) rfl
theorem q1530 : (Jvm.Cond.soleField "PlugHallModel" "thrown") ∈ lw_all := lw_g (lw_at lw_m6 235 rfl) rfl
theorem q1531 : (Jvm.Cond.laysFinal "PlugHallModel" "PlugHallModel" "tape" "[B") ∈ lw_all := lw_g (lw_at lw_m6 236 rfl) rfl
theorem q1532 : (Jvm.Cond.soleField "PlugHallModel" "tape") ∈ lw_all := lw_g (lw_at lw_m6 237 rfl) rfl
theorem q1533 : (Jvm.Cond.lays "PlugHallModel" "PlugHallModel" "length" "I") ∈ lw_all := lw_g (lw_at lw_m6 238 rfl) rfl
theorem q1534 : (Jvm.Cond.soleField "PlugHallModel" "length") ∈ lw_all := lw_g (lw_at lw_m6 239 rfl) rfl
theorem q1535 : (Jvm.Cond.lays "PlugHallModel" "PlugHallModel" "size" "I") ∈ lw_all := lw_g (lw_at lw_m7 0 rfl) rfl
theorem q1536 : (Jvm.Cond.soleField "PlugHallModel" "size") ∈ lw_all := lw_g (lw_at lw_m7 1 rfl) rfl
theorem q1537 : (Jvm.Cond.lays "PlugHallModel" "PlugHallModel" "p" "I") ∈ lw_all := lw_g (lw_at lw_m7 2 rfl) rfl
theorem q1538 : (Jvm.Cond.soleField "PlugHallModel" "p") ∈ lw_all := lw_g (lw_at lw_m7 3 rfl) rfl
theorem q1539 : (Jvm.Cond.laysFinal "PlugHallModel" "PlugHallModel" "cards" "[I") ∈ lw_all := lw_g (lw_at lw_m7 4 rfl) rfl
theorem q1540 : (Jvm.Cond.soleField "PlugHallModel" "cards") ∈ lw_all := lw_g (lw_at lw_m7 5 rfl) rfl
theorem q1541 : (Jvm.Cond.laysFinal "PlugHallModel" "PlugHallModel" "many" "[I") ∈ lw_all := lw_g (lw_at lw_m7 6 rfl) rfl
theorem q1542 : (Jvm.Cond.soleField "PlugHallModel" "many") ∈ lw_all := lw_g (lw_at lw_m7 7 rfl) rfl
theorem q1543 : (Jvm.Cond.lays "PlugHallModel" "PlugHallModel" "token" "I") ∈ lw_all := lw_g (lw_at lw_m7 8 rfl) rfl
theorem q1544 : (Jvm.Cond.soleField "PlugHallModel" "token") ∈ lw_all := lw_g (lw_at lw_m7 9 rfl) rfl
theorem q1545 : (Jvm.Cond.lays "PlugHallModel" "PlugHallModel" "at" "I") ∈ lw_all := lw_g (lw_at lw_m7 10 rfl) rfl
theorem q1546 : (Jvm.Cond.soleField "PlugHallModel" "at") ∈ lw_all := lw_g (lw_at lw_m7 11 rfl) rfl
theorem q1547 : (Jvm.Cond.lays "PlugHallModel" "PlugHallModel" "number" "I") ∈ lw_all := lw_g (lw_at lw_m7 12 rfl) rfl
theorem q1548 : (Jvm.Cond.soleField "PlugHallModel" "number") ∈ lw_all := lw_g (lw_at lw_m7 13 rfl) rfl
theorem q1549 : (Jvm.Cond.lays "PlugHallModel" "PlugHallModel" "fault" "I") ∈ lw_all := lw_g (lw_at lw_m7 14 rfl) rfl
theorem q1550 : (Jvm.Cond.soleField "PlugHallModel" "fault") ∈ lw_all := lw_g (lw_at lw_m7 15 rfl) rfl
theorem q1551 : (Jvm.Cond.lays "PlugHallModel" "PlugHallModel" "faultAt" "I") ∈ lw_all := lw_g (lw_at lw_m7 16 rfl) rfl
theorem q1552 : (Jvm.Cond.soleField "PlugHallModel" "faultAt") ∈ lw_all := lw_g (lw_at lw_m7 17 rfl) rfl
theorem q1553 : (Jvm.Cond.lays "PlugHallModel" "PlugHallModel" "limit" "I") ∈ lw_all := lw_g (lw_at lw_m7 18 rfl) rfl
theorem q1554 : (Jvm.Cond.soleField "PlugHallModel" "limit") ∈ lw_all := lw_g (lw_at lw_m7 19 rfl) rfl
theorem q1555 : (Jvm.Cond.lays "PlugHallModel" "PlugHallModel" "word" "J") ∈ lw_all := lw_g (lw_at lw_m7 20 rfl) rfl
theorem q1556 : (Jvm.Cond.soleField "PlugHallModel" "word") ∈ lw_all := lw_g (lw_at lw_m7 21 rfl) rfl
theorem q1557 : (Jvm.Cond.lays "PlugHallModel" "PlugHallModel" "told" "I") ∈ lw_all := lw_g (lw_at lw_m7 22 rfl) rfl
theorem q1558 : (Jvm.Cond.soleField "PlugHallModel" "told") ∈ lw_all := lw_g (lw_at lw_m7 23 rfl) rfl
theorem q1559 : (Jvm.Cond.laysFinal "PlugHallModel" "PlugHallModel" "one" "[I") ∈ lw_all := lw_g (lw_at lw_m7 24 rfl) rfl
theorem q1560 : (Jvm.Cond.soleField "PlugHallModel" "one") ∈ lw_all := lw_g (lw_at lw_m7 25 rfl) rfl
theorem q1561 : (Jvm.Cond.laysFinal "PlugHallModel" "PlugHallModel" "two" "[I") ∈ lw_all := lw_g (lw_at lw_m7 26 rfl) rfl
theorem q1562 : (Jvm.Cond.soleField "PlugHallModel" "two") ∈ lw_all := lw_g (lw_at lw_m7 27 rfl) rfl
theorem q1563 : (Jvm.Cond.laysFinal "PlugHallModel" "PlugHallModel" "wires" "[I") ∈ lw_all := lw_g (lw_at lw_m7 28 rfl) rfl
theorem q1564 : (Jvm.Cond.soleField "PlugHallModel" "wires") ∈ lw_all := lw_g (lw_at lw_m7 29 rfl) rfl
theorem q1565 : (Jvm.Cond.laysFinal "PlugHallModel" "PlugHallModel" "ends" "[I") ∈ lw_all := lw_g (lw_at lw_m7 30 rfl) rfl
theorem q1566 : (Jvm.Cond.soleField "PlugHallModel" "ends") ∈ lw_all := lw_g (lw_at lw_m7 31 rfl) rfl
theorem q1567 : (Jvm.Cond.laysFinal "PlugHallModel" "PlugHallModel" "isKept" "[Z") ∈ lw_all := lw_g (lw_at lw_m7 32 rfl) rfl
theorem q1568 : (Jvm.Cond.soleField "PlugHallModel" "isKept") ∈ lw_all := lw_g (lw_at lw_m7 33 rfl) rfl
theorem q1569 : (Jvm.Cond.lays "PlugHallModel" "PlugHallModel" "first" "I") ∈ lw_all := lw_g (lw_at lw_m7 34 rfl) rfl
theorem q1570 : (Jvm.Cond.soleField "PlugHallModel" "first") ∈ lw_all := lw_g (lw_at lw_m7 35 rfl) rfl
theorem q1571 : (Jvm.Cond.lays "PlugHallModel" "PlugHallModel" "reaches" "I") ∈ lw_all := lw_g (lw_at lw_m7 36 rfl) rfl
theorem q1572 : (Jvm.Cond.soleField "PlugHallModel" "reaches") ∈ lw_all := lw_g (lw_at lw_m7 37 rfl) rfl
theorem q1573 : (Jvm.Cond.lays "PlugHallModel" "PlugHallModel" "inner" "I") ∈ lw_all := lw_g (lw_at lw_m7 38 rfl) rfl
theorem q1574 : (Jvm.Cond.soleField "PlugHallModel" "inner") ∈ lw_all := lw_g (lw_at lw_m7 39 rfl) rfl
theorem q1575 : (Jvm.Cond.laysFinal "PlugHallModel" "PlugHallModel" "deck" "[I") ∈ lw_all := lw_g (lw_at lw_m7 40 rfl) rfl
theorem q1576 : (Jvm.Cond.soleField "PlugHallModel" "deck") ∈ lw_all := lw_g (lw_at lw_m7 41 rfl) rfl
theorem q1577 : (Jvm.Cond.laysFinal "PlugHallModel" "PlugHallModel" "gives" "[I") ∈ lw_all := lw_g (lw_at lw_m7 42 rfl) rfl
theorem q1578 : (Jvm.Cond.soleField "PlugHallModel" "gives") ∈ lw_all := lw_g (lw_at lw_m7 43 rfl) rfl
theorem q1579 : (Jvm.Cond.laysFinal "PlugHallModel" "PlugHallModel" "plain" "[I") ∈ lw_all := lw_g (lw_at lw_m7 44 rfl) rfl
theorem q1580 : (Jvm.Cond.soleField "PlugHallModel" "plain") ∈ lw_all := lw_g (lw_at lw_m7 45 rfl) rfl
theorem q1581 : (Jvm.Cond.laysFinal "PlugHallModel" "PlugHallModel" "label" "[I") ∈ lw_all := lw_g (lw_at lw_m7 46 rfl) rfl
theorem q1582 : (Jvm.Cond.soleField "PlugHallModel" "label") ∈ lw_all := lw_g (lw_at lw_m7 47 rfl) rfl
theorem q1583 : (Jvm.Cond.laysFinal "PlugHallModel" "PlugHallModel" "firstOf" "[I") ∈ lw_all := lw_g (lw_at lw_m7 48 rfl) rfl
theorem q1584 : (Jvm.Cond.soleField "PlugHallModel" "firstOf") ∈ lw_all := lw_g (lw_at lw_m7 49 rfl) rfl
theorem q1585 : (Jvm.Cond.laysFinal "PlugHallModel" "PlugHallModel" "countOf" "[I") ∈ lw_all := lw_g (lw_at lw_m7 50 rfl) rfl
theorem q1586 : (Jvm.Cond.soleField "PlugHallModel" "countOf") ∈ lw_all := lw_g (lw_at lw_m7 51 rfl) rfl
theorem q1587 : (Jvm.Cond.laysFinal "PlugHallModel" "PlugHallModel" "picked" "[Z") ∈ lw_all := lw_g (lw_at lw_m7 52 rfl) rfl
theorem q1588 : (Jvm.Cond.soleField "PlugHallModel" "picked") ∈ lw_all := lw_g (lw_at lw_m7 53 rfl) rfl
theorem q1589 : (Jvm.Cond.laysFinal "PlugHallModel" "PlugHallModel" "end" "[I") ∈ lw_all := lw_g (lw_at lw_m7 54 rfl) rfl
theorem q1590 : (Jvm.Cond.soleField "PlugHallModel" "end") ∈ lw_all := lw_g (lw_at lw_m7 55 rfl) rfl
theorem q1591 : (Jvm.Cond.laysFinal "PlugHallModel" "PlugHallModel" "lines" "[I") ∈ lw_all := lw_g (lw_at lw_m7 56 rfl) rfl
theorem q1592 : (Jvm.Cond.soleField "PlugHallModel" "lines") ∈ lw_all := lw_g (lw_at lw_m7 57 rfl) rfl
theorem q1593 : (Jvm.Cond.laysFinal "PlugHallModel" "PlugHallModel" "punched" "[I") ∈ lw_all := lw_g (lw_at lw_m7 58 rfl) rfl
theorem q1594 : (Jvm.Cond.soleField "PlugHallModel" "punched") ∈ lw_all := lw_g (lw_at lw_m7 59 rfl) rfl
theorem q1595 : (Jvm.Cond.laysFinal "PlugHallModel" "PlugHallModel" "prints" "[I") ∈ lw_all := lw_g (lw_at lw_m7 60 rfl) rfl
theorem q1596 : (Jvm.Cond.soleField "PlugHallModel" "prints") ∈ lw_all := lw_g (lw_at lw_m7 61 rfl) rfl
theorem q1597 : (Jvm.Cond.laysFinal "PlugHallModel" "PlugHallModel" "wheels" "[I") ∈ lw_all := lw_g (lw_at lw_m7 62 rfl) rfl
theorem q1598 : (Jvm.Cond.soleField "PlugHallModel" "wheels") ∈ lw_all := lw_g (lw_at lw_m7 63 rfl) rfl
theorem q1599 : (Jvm.Cond.laysFinal "PlugHallModel" "PlugHallModel" "punches" "[I") ∈ lw_all := lw_g (lw_at lw_m7 64 rfl) rfl
theorem q1600 : (Jvm.Cond.soleField "PlugHallModel" "punches") ∈ lw_all := lw_g (lw_at lw_m7 65 rfl) rfl
theorem q1601 : (Jvm.Cond.laysFinal "PlugHallModel" "PlugHallModel" "ranCards" "[I") ∈ lw_all := lw_g (lw_at lw_m7 66 rfl) rfl
theorem q1602 : (Jvm.Cond.soleField "PlugHallModel" "ranCards") ∈ lw_all := lw_g (lw_at lw_m7 67 rfl) rfl
theorem q1603 : (Jvm.Cond.laysFinal "PlugHallModel" "PlugHallModel" "ranTotals" "[I") ∈ lw_all := lw_g (lw_at lw_m7 68 rfl) rfl
theorem q1604 : (Jvm.Cond.soleField "PlugHallModel" "ranTotals") ∈ lw_all := lw_g (lw_at lw_m7 69 rfl) rfl
theorem q1605 : (Jvm.Cond.laysFinal "PlugHallModel" "PlugHallModel" "overs" "[I") ∈ lw_all := lw_g (lw_at lw_m7 70 rfl) rfl
theorem q1606 : (Jvm.Cond.soleField "PlugHallModel" "overs") ∈ lw_all := lw_g (lw_at lw_m7 71 rfl) rfl
theorem q1607 : (Jvm.Cond.laysFinal "PlugHallModel" "PlugHallModel" "jamOne" "[I") ∈ lw_all := lw_g (lw_at lw_m7 72 rfl) rfl
theorem q1608 : (Jvm.Cond.soleField "PlugHallModel" "jamOne") ∈ lw_all := lw_g (lw_at lw_m7 73 rfl) rfl
theorem q1609 : (Jvm.Cond.laysFinal "PlugHallModel" "PlugHallModel" "jamTwo" "[I") ∈ lw_all := lw_g (lw_at lw_m7 74 rfl) rfl
theorem q1610 : (Jvm.Cond.soleField "PlugHallModel" "jamTwo") ∈ lw_all := lw_g (lw_at lw_m7 75 rfl) rfl
theorem q1611 : (Jvm.Cond.lays "PlugHallModel" "PlugHallModel" "deckMany" "I") ∈ lw_all := lw_g (lw_at lw_m7 76 rfl) rfl
theorem q1612 : (Jvm.Cond.soleField "PlugHallModel" "deckMany") ∈ lw_all := lw_g (lw_at lw_m7 77 rfl) rfl
theorem q1613 : (Jvm.Cond.lays "PlugHallModel" "PlugHallModel" "without" "I") ∈ lw_all := lw_g (lw_at lw_m7 78 rfl) rfl
theorem q1614 : (Jvm.Cond.soleField "PlugHallModel" "without") ∈ lw_all := lw_g (lw_at lw_m7 79 rfl) rfl
theorem q1615 : (Jvm.Cond.lays "PlugHallModel" "PlugHallModel" "room" "I") ∈ lw_all := lw_g (lw_at lw_m7 80 rfl) rfl
theorem q1616 : (Jvm.Cond.soleField "PlugHallModel" "room") ∈ lw_all := lw_g (lw_at lw_m7 81 rfl) rfl
theorem q1617 : (Jvm.Cond.lays "PlugHallModel" "PlugHallModel" "wasRun" "Z") ∈ lw_all := lw_g (lw_at lw_m7 82 rfl) rfl
theorem q1618 : (Jvm.Cond.soleField "PlugHallModel" "wasRun") ∈ lw_all := lw_g (lw_at lw_m7 83 rfl) rfl
theorem q1619 : (Jvm.Cond.laysFinal "PlugHallModel" "PlugHallModel" "order" "[I") ∈ lw_all := lw_g (lw_at lw_m7 84 rfl) rfl
theorem q1620 : (Jvm.Cond.soleField "PlugHallModel" "order") ∈ lw_all := lw_g (lw_at lw_m7 85 rfl) rfl
theorem q1621 : (Jvm.Cond.laysFinal "PlugHallModel" "PlugHallModel" "moved" "[I") ∈ lw_all := lw_g (lw_at lw_m7 86 rfl) rfl
theorem q1622 : (Jvm.Cond.soleField "PlugHallModel" "moved") ∈ lw_all := lw_g (lw_at lw_m7 87 rfl) rfl
theorem q1623 : (Jvm.Cond.lays "PlugHallModel" "PlugHallModel" "passSet" "I") ∈ lw_all := lw_g (lw_at lw_m7 88 rfl) rfl
theorem q1624 : (Jvm.Cond.soleField "PlugHallModel" "passSet") ∈ lw_all := lw_g (lw_at lw_m7 89 rfl) rfl
theorem q1625 : (Jvm.Cond.laysFinal "PlugHallModel" "PlugHallModel" "listed" "[I") ∈ lw_all := lw_g (lw_at lw_m7 90 rfl) rfl
theorem q1626 : (Jvm.Cond.soleField "PlugHallModel" "listed") ∈ lw_all := lw_g (lw_at lw_m7 91 rfl) rfl
theorem q1627 : (Jvm.Cond.laysFinal "PlugHallModel" "PlugHallModel" "unseenCards" "[I") ∈ lw_all := lw_g (lw_at lw_m7 92 rfl) rfl
theorem q1628 : (Jvm.Cond.soleField "PlugHallModel" "unseenCards") ∈ lw_all := lw_g (lw_at lw_m7 93 rfl) rfl
theorem q1629 : (Jvm.Cond.laysFinal "PlugHallModel" "PlugHallModel" "wanted" "[I") ∈ lw_all := lw_g (lw_at lw_m7 94 rfl) rfl
theorem q1630 : (Jvm.Cond.soleField "PlugHallModel" "wanted") ∈ lw_all := lw_g (lw_at lw_m7 95 rfl) rfl
theorem q1631 : (Jvm.Cond.laysFinal "PlugHallModel" "PlugHallModel" "sawMany" "[I") ∈ lw_all := lw_g (lw_at lw_m7 96 rfl) rfl
theorem q1632 : (Jvm.Cond.soleField "PlugHallModel" "sawMany") ∈ lw_all := lw_g (lw_at lw_m7 97 rfl) rfl
theorem q1633 : (Jvm.Cond.laysFinal "PlugHallModel" "PlugHallModel" "shows" "[J") ∈ lw_all := lw_g (lw_at lw_m7 98 rfl) rfl
theorem q1634 : (Jvm.Cond.soleField "PlugHallModel" "shows") ∈ lw_all := lw_g (lw_at lw_m7 99 rfl) rfl
theorem q1635 : (Jvm.Cond.lays "PlugHallModel" "PlugHallModel" "listMany" "I") ∈ lw_all := lw_g (lw_at lw_m7 100 rfl) rfl
theorem q1636 : (Jvm.Cond.soleField "PlugHallModel" "listMany") ∈ lw_all := lw_g (lw_at lw_m7 101 rfl) rfl
theorem q1637 : (Jvm.Cond.lays "PlugHallModel" "PlugHallModel" "unseenMany" "I") ∈ lw_all := lw_g (lw_at lw_m7 102 rfl) rfl
theorem q1638 : (Jvm.Cond.soleField "PlugHallModel" "unseenMany") ∈ lw_all := lw_g (lw_at lw_m7 103 rfl) rfl
theorem q1639 : (Jvm.Cond.lays "PlugHallModel" "PlugHallModel" "wantMany" "I") ∈ lw_all := lw_g (lw_at lw_m7 104 rfl) rfl
theorem q1640 : (Jvm.Cond.soleField "PlugHallModel" "wantMany") ∈ lw_all := lw_g (lw_at lw_m7 105 rfl) rfl
theorem q1641 : (Jvm.Cond.lays "PlugHallModel" "PlugHallModel" "testSet" "I") ∈ lw_all := lw_g (lw_at lw_m7 106 rfl) rfl
theorem q1642 : (Jvm.Cond.soleField "PlugHallModel" "testSet") ∈ lw_all := lw_g (lw_at lw_m7 107 rfl) rfl
theorem q1643 : (Jvm.Cond.lays "PlugHallModel" "PlugHallModel" "testShown" "I") ∈ lw_all := lw_g (lw_at lw_m7 108 rfl) rfl
theorem q1644 : (Jvm.Cond.soleField "PlugHallModel" "testShown") ∈ lw_all := lw_g (lw_at lw_m7 109 rfl) rfl
theorem q1645 : (Jvm.Cond.laysFinal "PlugHallModel" "PlugHallModel" "moveWire" "[I") ∈ lw_all := lw_g (lw_at lw_m7 110 rfl) rfl
theorem q1646 : (Jvm.Cond.soleField "PlugHallModel" "moveWire") ∈ lw_all := lw_g (lw_at lw_m7 111 rfl) rfl
theorem q1647 : (Jvm.Cond.laysFinal "PlugHallModel" "PlugHallModel" "moveEnd" "[I") ∈ lw_all := lw_g (lw_at lw_m7 112 rfl) rfl
theorem q1648 : (Jvm.Cond.soleField "PlugHallModel" "moveEnd") ∈ lw_all := lw_g (lw_at lw_m7 113 rfl) rfl
theorem q1649 : (Jvm.Cond.laysFinal "PlugHallModel" "PlugHallModel" "moveHub" "[I") ∈ lw_all := lw_g (lw_at lw_m7 114 rfl) rfl
theorem q1650 : (Jvm.Cond.soleField "PlugHallModel" "moveHub") ∈ lw_all := lw_g (lw_at lw_m7 115 rfl) rfl
theorem q1651 : (Jvm.Cond.lays "PlugHallModel" "PlugHallModel" "moveMany" "I") ∈ lw_all := lw_g (lw_at lw_m7 116 rfl) rfl
theorem q1652 : (Jvm.Cond.soleField "PlugHallModel" "moveMany") ∈ lw_all := lw_g (lw_at lw_m7 117 rfl) rfl
theorem q1653 : (Jvm.Cond.laysFinal "PlugHallModel" "PlugHallModel" "fields" "[I") ∈ lw_all := lw_g (lw_at lw_m7 118 rfl) rfl
theorem q1654 : (Jvm.Cond.soleField "PlugHallModel" "fields") ∈ lw_all := lw_g (lw_at lw_m7 119 rfl) rfl
theorem q1655 : (Jvm.Cond.laysFinal "PlugHallModel" "PlugHallModel" "fieldFrom" "[I") ∈ lw_all := lw_g (lw_at lw_m7 120 rfl) rfl
theorem q1656 : (Jvm.Cond.soleField "PlugHallModel" "fieldFrom") ∈ lw_all := lw_g (lw_at lw_m7 121 rfl) rfl
theorem q1657 : (Jvm.Cond.laysFinal "PlugHallModel" "PlugHallModel" "fieldTo" "[I") ∈ lw_all := lw_g (lw_at lw_m7 122 rfl) rfl
theorem q1658 : (Jvm.Cond.soleField "PlugHallModel" "fieldTo") ∈ lw_all := lw_g (lw_at lw_m7 123 rfl) rfl
theorem q1659 : (Jvm.Cond.laysFinal "PlugHallModel" "PlugHallModel" "breakAt" "[I") ∈ lw_all := lw_g (lw_at lw_m7 124 rfl) rfl
theorem q1660 : (Jvm.Cond.soleField "PlugHallModel" "breakAt") ∈ lw_all := lw_g (lw_at lw_m7 125 rfl) rfl
theorem q1661 : (Jvm.Cond.laysFinal "PlugHallModel" "PlugHallModel" "wantCount" "[I") ∈ lw_all := lw_g (lw_at lw_m7 126 rfl) rfl
theorem q1662 : (Jvm.Cond.soleField "PlugHallModel" "wantCount") ∈ lw_all := lw_g (lw_at lw_m7 127 rfl) rfl
theorem q1663 : (Jvm.Cond.laysFinal "PlugHallModel" "PlugHallModel" "wantField" "[I") ∈ lw_all := lw_g (lw_at lw_m7 128 rfl) rfl
theorem q1664 : (Jvm.Cond.soleField "PlugHallModel" "wantField") ∈ lw_all := lw_g (lw_at lw_m7 129 rfl) rfl
theorem q1665 : (Jvm.Cond.laysFinal "PlugHallModel" "PlugHallModel" "wantDigits" "[I") ∈ lw_all := lw_g (lw_at lw_m7 130 rfl) rfl
theorem q1666 : (Jvm.Cond.soleField "PlugHallModel" "wantDigits") ∈ lw_all := lw_g (lw_at lw_m7 131 rfl) rfl
theorem q1667 : (Jvm.Cond.laysFinal "PlugHallModel" "PlugHallModel" "wantOrder" "[I") ∈ lw_all := lw_g (lw_at lw_m7 132 rfl) rfl
theorem q1668 : (Jvm.Cond.soleField "PlugHallModel" "wantOrder") ∈ lw_all := lw_g (lw_at lw_m7 133 rfl) rfl
theorem q1669 : (Jvm.Cond.laysFinal "PlugHallModel" "PlugHallModel" "wantOver" "[I") ∈ lw_all := lw_g (lw_at lw_m7 134 rfl) rfl
theorem q1670 : (Jvm.Cond.soleField "PlugHallModel" "wantOver") ∈ lw_all := lw_g (lw_at lw_m7 135 rfl) rfl
theorem q1671 : (Jvm.Cond.laysFinal "PlugHallModel" "PlugHallModel" "fieldName" "[J") ∈ lw_all := lw_g (lw_at lw_m7 136 rfl) rfl
theorem q1672 : (Jvm.Cond.soleField "PlugHallModel" "fieldName") ∈ lw_all := lw_g (lw_at lw_m7 137 rfl) rfl
theorem q1673 : (Jvm.Cond.laysFinal "PlugHallModel" "PlugHallModel" "madeOne" "[I") ∈ lw_all := lw_g (lw_at lw_m7 138 rfl) rfl
theorem q1674 : (Jvm.Cond.soleField "PlugHallModel" "madeOne") ∈ lw_all := lw_g (lw_at lw_m7 139 rfl) rfl
theorem q1675 : (Jvm.Cond.laysFinal "PlugHallModel" "PlugHallModel" "madeTwo" "[I") ∈ lw_all := lw_g (lw_at lw_m7 140 rfl) rfl
theorem q1676 : (Jvm.Cond.soleField "PlugHallModel" "madeTwo") ∈ lw_all := lw_g (lw_at lw_m7 141 rfl) rfl
theorem q1677 : (Jvm.Cond.laysFinal "PlugHallModel" "PlugHallModel" "relayFor" "[I") ∈ lw_all := lw_g (lw_at lw_m7 142 rfl) rfl
theorem q1678 : (Jvm.Cond.soleField "PlugHallModel" "relayFor") ∈ lw_all := lw_g (lw_at lw_m7 143 rfl) rfl
theorem q1679 : (Jvm.Cond.laysFinal "PlugHallModel" "PlugHallModel" "relayPoints" "[I") ∈ lw_all := lw_g (lw_at lw_m7 144 rfl) rfl
theorem q1680 : (Jvm.Cond.soleField "PlugHallModel" "relayPoints") ∈ lw_all := lw_g (lw_at lw_m7 145 rfl) rfl
theorem q1681 : (Jvm.Cond.laysFinal "PlugHallModel" "PlugHallModel" "parts" "[I") ∈ lw_all := lw_g (lw_at lw_m7 146 rfl) rfl
theorem q1682 : (Jvm.Cond.soleField "PlugHallModel" "parts") ∈ lw_all := lw_g (lw_at lw_m7 147 rfl) rfl
theorem q1683 : (Jvm.Cond.laysFinal "PlugHallModel" "PlugHallModel" "firstPart" "[I") ∈ lw_all := lw_g (lw_at lw_m7 148 rfl) rfl
theorem q1684 : (Jvm.Cond.soleField "PlugHallModel" "firstPart") ∈ lw_all := lw_g (lw_at lw_m7 149 rfl) rfl
theorem q1685 : (Jvm.Cond.laysFinal "PlugHallModel" "PlugHallModel" "fits" "[Z") ∈ lw_all := lw_g (lw_at lw_m7 150 rfl) rfl
theorem q1686 : (Jvm.Cond.soleField "PlugHallModel" "fits") ∈ lw_all := lw_g (lw_at lw_m7 151 rfl) rfl
theorem q1687 : (Jvm.Cond.lays "PlugHallModel" "PlugHallModel" "madeMany" "I") ∈ lw_all := lw_g (lw_at lw_m7 152 rfl) rfl
theorem q1688 : (Jvm.Cond.soleField "PlugHallModel" "madeMany") ∈ lw_all := lw_g (lw_at lw_m7 153 rfl) rfl
theorem q1689 : (Jvm.Cond.lays "PlugHallModel" "PlugHallModel" "relayMany" "I") ∈ lw_all := lw_g (lw_at lw_m7 154 rfl) rfl
theorem q1690 : (Jvm.Cond.soleField "PlugHallModel" "relayMany") ∈ lw_all := lw_g (lw_at lw_m7 155 rfl) rfl
theorem q1691 : (Jvm.Cond.lays "PlugHallModel" "PlugHallModel" "tooMany" "Z") ∈ lw_all := lw_g (lw_at lw_m7 156 rfl) rfl
theorem q1692 : (Jvm.Cond.soleField "PlugHallModel" "tooMany") ∈ lw_all := lw_g (lw_at lw_m7 157 rfl) rfl
theorem q1693 : (Jvm.Cond.laysFinal "PlugHallModel" "PlugHallModel" "due" "[I") ∈ lw_all := lw_g (lw_at lw_m7 158 rfl) rfl
theorem q1694 : (Jvm.Cond.soleField "PlugHallModel" "due") ∈ lw_all := lw_g (lw_at lw_m7 159 rfl) rfl
theorem q1695 : (Jvm.Cond.laysFinal "PlugHallModel" "PlugHallModel" "worth" "[I") ∈ lw_all := lw_g (lw_at lw_m7 160 rfl) rfl
theorem q1696 : (Jvm.Cond.soleField "PlugHallModel" "worth") ∈ lw_all := lw_g (lw_at lw_m7 161 rfl) rfl
theorem q1697 : (Jvm.Cond.lays "PlugHallModel" "PlugHallModel" "dueMany" "I") ∈ lw_all := lw_g (lw_at lw_m7 162 rfl) rfl
theorem q1698 : (Jvm.Cond.soleField "PlugHallModel" "dueMany") ∈ lw_all := lw_g (lw_at lw_m7 163 rfl) rfl
theorem q1699 : (Jvm.Cond.lays "PlugHallModel" "PlugHallModel" "dueAll" "I") ∈ lw_all := lw_g (lw_at lw_m7 164 rfl) rfl
theorem q1700 : (Jvm.Cond.soleField "PlugHallModel" "dueAll") ∈ lw_all := lw_g (lw_at lw_m7 165 rfl) rfl
theorem q1701 : (Jvm.Cond.lays "PlugHallModel" "PlugHallModel" "wasWanted" "Z") ∈ lw_all := lw_g (lw_at lw_m7 166 rfl) rfl
theorem q1702 : (Jvm.Cond.soleField "PlugHallModel" "wasWanted") ∈ lw_all := lw_g (lw_at lw_m7 167 rfl) rfl
theorem q1703 : (Jvm.Cond.laysFinal "PlugHallModel" "PlugHallModel" "kept" "[I") ∈ lw_all := lw_g (lw_at lw_m7 168 rfl) rfl
theorem q1704 : (Jvm.Cond.soleField "PlugHallModel" "kept") ∈ lw_all := lw_g (lw_at lw_m7 169 rfl) rfl
theorem q1705 : (Jvm.Cond.laysFinal "PlugHallModel" "PlugHallModel" "plays" "[I") ∈ lw_all := lw_g (lw_at lw_m7 170 rfl) rfl
theorem q1706 : (Jvm.Cond.soleField "PlugHallModel" "plays") ∈ lw_all := lw_g (lw_at lw_m7 171 rfl) rfl
theorem q1707 : (Jvm.Cond.laysFinal "PlugHallModel" "PlugHallModel" "best" "[I") ∈ lw_all := lw_g (lw_at lw_m7 172 rfl) rfl
theorem q1708 : (Jvm.Cond.soleField "PlugHallModel" "best") ∈ lw_all := lw_g (lw_at lw_m7 173 rfl) rfl
theorem q1709 : (Jvm.Cond.lays "PlugHallModel" "PlugHallModel" "bestMany" "I") ∈ lw_all := lw_g (lw_at lw_m7 174 rfl) rfl
theorem q1710 : (Jvm.Cond.soleField "PlugHallModel" "bestMany") ∈ lw_all := lw_g (lw_at lw_m7 175 rfl) rfl
theorem q1711 : (Jvm.Cond.laysFinal "PlugHallModel" "PlugHallModel" "isPaired" "[Z") ∈ lw_all := lw_g (lw_at lw_m7 176 rfl) rfl
theorem q1712 : (Jvm.Cond.soleField "PlugHallModel" "isPaired") ∈ lw_all := lw_g (lw_at lw_m7 177 rfl) rfl
theorem q1713 : (Jvm.Cond.superclass "PlugHallModel" "java/lang/Object") ∈ lw_all := lw_g (lw_at lw_m7 178 rfl) rfl
theorem q1714 : (Jvm.Cond.methodLink "PlugHallLaw" (54 : Nat) ({ cls := "PlugHallModel", name := "thrown", desc := "()I" } : Jvm.MethodName)) ∈ lw_all := lw_g (lw_at lw_m7 179 rfl) rfl
theorem q1715 : (Jvm.Cond.instanceMethod ({ cls := "PlugHallModel", name := "thrown", desc := "()I" } : Jvm.MethodName)) ∈ lw_all := lw_g (lw_at lw_m7 180 rfl) rfl
theorem q1716 : (Jvm.Cond.selects "PlugHallModel" ({ cls := "PlugHallModel", name := "thrown", desc := "()I" } : Jvm.MethodName) ({ cls := "PlugHallModel", name := "thrown", desc := "()I" } : Jvm.MethodName)) ∈ lw_all := lw_g (lw_at lw_m7 181 rfl) rfl
theorem q1717 : (Jvm.Cond.code ({ cls := "PlugHallModel", name := "thrown", desc := "()I" } : Jvm.MethodName) prog_14_method_2_code (1 : Nat) (Option.some Jvm.ClassFile.FieldType.int)) ∈ lw_all := lw_g (lw_at lw_m7 182 rfl) rfl
theorem q1718 : (Jvm.Cond.methodLink "PlugHallLaw" (34 : Nat) ({ cls := "PlugHallModel", name := "feed", desc := "(IIIII)I" } : Jvm.MethodName)) ∈ lw_all := lw_g (lw_at lw_m7 183 rfl) rfl
theorem q1719 : (Jvm.Cond.instanceMethod ({ cls := "PlugHallModel", name := "feed", desc := "(IIIII)I" } : Jvm.MethodName)) ∈ lw_all := lw_g (lw_at lw_m7 184 rfl) rfl
theorem q1720 : (Jvm.Cond.selects "PlugHallModel" ({ cls := "PlugHallModel", name := "feed", desc := "(IIIII)I" } : Jvm.MethodName) ({ cls := "PlugHallModel", name := "feed", desc := "(IIIII)I" } : Jvm.MethodName)) ∈ lw_all := lw_g (lw_at lw_m7 185 rfl) rfl
theorem q1721 : (Jvm.Cond.code ({ cls := "PlugHallModel", name := "feed", desc := "(IIIII)I" } : Jvm.MethodName) prog_14_method_4_code (6 : Nat) (Option.some Jvm.ClassFile.FieldType.int)) ∈ lw_all := lw_g (lw_at lw_m7 186 rfl) rfl
theorem q1722 : (Jvm.Cond.methodLink "PlugHallModel" (197 : Nat) ({ cls := "PlugHallModel", name := "four", desc := "(I)V" } : Jvm.MethodName)) ∈ lw_all := lw_g (lw_at lw_m7 187 rfl) rfl
theorem q1723 : (Jvm.Cond.privateMethod ({ cls := "PlugHallModel", name := "four", desc := "(I)V" } : Jvm.MethodName)) ∈ lw_tbl := lw_at lw_m7 188 rfl
theorem q1724 : (Jvm.Cond.instanceMethod ({ cls := "PlugHallModel", name := "four", desc := "(I)V" } : Jvm.MethodName)) ∈ lw_all := lw_g (lw_at lw_m7 189 rfl) rfl
theorem q1725 : (Jvm.Cond.code ({ cls := "PlugHallModel", name := "four", desc := "(I)V" } : Jvm.MethodName) prog_14_method_5_code (3 : Nat) (Option.none : Option Jvm.ClassFile.FieldType)) ∈ lw_all := lw_g (lw_at lw_m7 190 rfl) rfl
theorem q1726 : (Jvm.Cond.methodLink "PlugHallLaw" (39 : Nat) ({ cls := "PlugHallModel", name := "end", desc := "(I)Z" } : Jvm.MethodName)) ∈ lw_all := lw_g (lw_at lw_m7 191 rfl) rfl
theorem q1727 : (Jvm.Cond.instanceMethod ({ cls := "PlugHallModel", name := "end", desc := "(I)Z" } : Jvm.MethodName)) ∈ lw_all := lw_g (lw_at lw_m7 192 rfl) rfl
theorem q1728 : (Jvm.Cond.selects "PlugHallModel" ({ cls := "PlugHallModel", name := "end", desc := "(I)Z" } : Jvm.MethodName) ({ cls := "PlugHallModel", name := "end", desc := "(I)Z" } : Jvm.MethodName)) ∈ lw_all := lw_g (lw_at lw_m7 193 rfl) rfl
theorem q1729 : (Jvm.Cond.code ({ cls := "PlugHallModel", name := "end", desc := "(I)Z" } : Jvm.MethodName) prog_14_method_6_code (2 : Nat) (Option.some Jvm.ClassFile.FieldType.boolean)) ∈ lw_all := lw_g (lw_at lw_m7 194 rfl) rfl
theorem q1730 : (Jvm.Cond.methodLink "PlugHallLaw" (43 : Nat) ({ cls := "PlugHallModel", name := "card", desc := "(I)I" } : Jvm.MethodName)) ∈ lw_all := lw_g (lw_at lw_m7 195 rfl) rfl
theorem q1731 : (Jvm.Cond.instanceMethod ({ cls := "PlugHallModel", name := "card", desc := "(I)I" } : Jvm.MethodName)) ∈ lw_all := lw_g (lw_at lw_m7 196 rfl) rfl
theorem q1732 : (Jvm.Cond.selects "PlugHallModel" ({ cls := "PlugHallModel", name := "card", desc := "(I)I" } : Jvm.MethodName) ({ cls := "PlugHallModel", name := "card", desc := "(I)I" } : Jvm.MethodName)) ∈ lw_all := lw_g (lw_at lw_m7 197 rfl) rfl
theorem q1733 : (Jvm.Cond.code ({ cls := "PlugHallModel", name := "card", desc := "(I)I" } : Jvm.MethodName) prog_14_method_11_code (3 : Nat) (Option.some Jvm.ClassFile.FieldType.int)) ∈ lw_all := lw_g (lw_at lw_m7 198 rfl) rfl
theorem q1734 : (Jvm.Cond.methodLink "PlugHallModel" (211 : Nat) ({ cls := "PlugHallModel", name := "taken", desc := "()V" } : Jvm.MethodName)) ∈ lw_all := lw_g (lw_at lw_m7 199 rfl) rfl
theorem q1735 : (Jvm.Cond.privateMethod ({ cls := "PlugHallModel", name := "taken", desc := "()V" } : Jvm.MethodName)) ∈ lw_tbl := lw_at lw_m7 200 rfl
theorem q1736 : (Jvm.Cond.instanceMethod ({ cls := "PlugHallModel", name := "taken", desc := "()V" } : Jvm.MethodName)) ∈ lw_all := lw_g (lw_at lw_m7 201 rfl) rfl
theorem q1737 : (Jvm.Cond.code ({ cls := "PlugHallModel", name := "taken", desc := "()V" } : Jvm.MethodName) prog_14_method_7_code (1 : Nat) (Option.none : Option Jvm.ClassFile.FieldType)) ∈ lw_all := lw_g (lw_at lw_m7 202 rfl) rfl
theorem q1738 : (Jvm.Cond.methodLink "PlugHallModel" (214 : Nat) ({ cls := "PlugHallModel", name := "isBox", desc := "(I)Z" } : Jvm.MethodName)) ∈ lw_all := lw_g (lw_at lw_m7 203 rfl) rfl
theorem q1739 : (Jvm.Cond.static ({ cls := "PlugHallModel", name := "isBox", desc := "(I)Z" } : Jvm.MethodName)) ∈ lw_all := lw_g (lw_at lw_m7 204 rfl) rfl
theorem q1740 : (Jvm.Cond.code ({ cls := "PlugHallModel", name := "isBox", desc := "(I)Z" } : Jvm.MethodName) prog_14_method_10_code (1 : Nat) (Option.some Jvm.ClassFile.FieldType.boolean)) ∈ lw_all := lw_g (lw_at lw_m7 205 rfl) rfl
theorem q1741 : (Jvm.Cond.methodLink "PlugHallModel" (207 : Nat) ({ cls := "PlugHallModel", name := "isIn", desc := "(III)Z" } : Jvm.MethodName)) ∈ lw_all := lw_g (lw_at lw_m7 206 rfl) rfl
theorem q1742 : (Jvm.Cond.static ({ cls := "PlugHallModel", name := "isIn", desc := "(III)Z" } : Jvm.MethodName)) ∈ lw_all := lw_g (lw_at lw_m7 207 rfl) rfl
theorem q1743 : (Jvm.Cond.code ({ cls := "PlugHallModel", name := "isIn", desc := "(III)Z" } : Jvm.MethodName) prog_14_method_8_code (3 : Nat) (Option.some Jvm.ClassFile.FieldType.boolean)) ∈ lw_all := lw_g (lw_at lw_m7 208 rfl) rfl
theorem q1744 : (Jvm.Cond.methodLink "PlugHallModel" (218 : Nat) ({ cls := "PlugHallModel", name := "octet", desc := "(I)I" } : Jvm.MethodName)) ∈ lw_all := lw_g (lw_at lw_m7 209 rfl) rfl
theorem q1745 : (Jvm.Cond.privateMethod ({ cls := "PlugHallModel", name := "octet", desc := "(I)I" } : Jvm.MethodName)) ∈ lw_tbl := lw_at lw_m7 210 rfl
theorem q1746 : (Jvm.Cond.instanceMethod ({ cls := "PlugHallModel", name := "octet", desc := "(I)I" } : Jvm.MethodName)) ∈ lw_all := lw_g (lw_at lw_m7 211 rfl) rfl
theorem q1747 : (Jvm.Cond.code ({ cls := "PlugHallModel", name := "octet", desc := "(I)I" } : Jvm.MethodName) prog_14_method_9_code (2 : Nat) (Option.some Jvm.ClassFile.FieldType.int)) ∈ lw_all := lw_g (lw_at lw_m7 212 rfl) rfl
theorem q1748 : (Jvm.Cond.methodLink "PlugHallLaw" (47 : Nat) ({ cls := "PlugHallModel", name := "cards", desc := "(I)I" } : Jvm.MethodName)) ∈ lw_all := lw_g (lw_at lw_m7 213 rfl) rfl
theorem q1749 : (Jvm.Cond.instanceMethod ({ cls := "PlugHallModel", name := "cards", desc := "(I)I" } : Jvm.MethodName)) ∈ lw_all := lw_g (lw_at lw_m7 214 rfl) rfl
theorem q1750 : (Jvm.Cond.selects "PlugHallModel" ({ cls := "PlugHallModel", name := "cards", desc := "(I)I" } : Jvm.MethodName) ({ cls := "PlugHallModel", name := "cards", desc := "(I)I" } : Jvm.MethodName)) ∈ lw_all := lw_g (lw_at lw_m7 215 rfl) rfl
theorem q1751 : (Jvm.Cond.code ({ cls := "PlugHallModel", name := "cards", desc := "(I)I" } : Jvm.MethodName) prog_14_method_12_code (2 : Nat) (Option.some Jvm.ClassFile.FieldType.int)) ∈ lw_all := lw_g (lw_at lw_m7 216 rfl) rfl
theorem q1752 : (Jvm.Cond.methodLink "PlugHallLaw" (53 : Nat) ({ cls := "PlugHallModel", name := "column", desc := "(III)I" } : Jvm.MethodName)) ∈ lw_all := lw_g (lw_at lw_m7 217 rfl) rfl
theorem q1753 : (Jvm.Cond.instanceMethod ({ cls := "PlugHallModel", name := "column", desc := "(III)I" } : Jvm.MethodName)) ∈ lw_all := lw_g (lw_at lw_m7 218 rfl) rfl
theorem q1754 : (Jvm.Cond.selects "PlugHallModel" ({ cls := "PlugHallModel", name := "column", desc := "(III)I" } : Jvm.MethodName) ({ cls := "PlugHallModel", name := "column", desc := "(III)I" } : Jvm.MethodName)) ∈ lw_all := lw_g (lw_at lw_m7 219 rfl) rfl
theorem q1755 : (Jvm.Cond.code ({ cls := "PlugHallModel", name := "column", desc := "(III)I" } : Jvm.MethodName) prog_14_method_13_code (4 : Nat) (Option.some Jvm.ClassFile.FieldType.int)) ∈ lw_all := lw_g (lw_at lw_m7 220 rfl) rfl
theorem q1756 : (Jvm.Cond.methodLink "PlugHallModel" (222 : Nat) ({ cls := "PlugHallModel", name := "throwsIf", desc := "(Z)Z" } : Jvm.MethodName)) ∈ lw_all := lw_g (lw_at lw_m7 221 rfl) rfl
theorem q1757 : (Jvm.Cond.privateMethod ({ cls := "PlugHallModel", name := "throwsIf", desc := "(Z)Z" } : Jvm.MethodName)) ∈ lw_tbl := lw_at lw_m7 222 rfl
theorem q1758 : (Jvm.Cond.instanceMethod ({ cls := "PlugHallModel", name := "throwsIf", desc := "(Z)Z" } : Jvm.MethodName)) ∈ lw_all := lw_g (lw_at lw_m7 223 rfl) rfl
theorem q1759 : (Jvm.Cond.code ({ cls := "PlugHallModel", name := "throwsIf", desc := "(Z)Z" } : Jvm.MethodName) prog_14_method_3_code (2 : Nat) (Option.some Jvm.ClassFile.FieldType.boolean)) ∈ lw_all := lw_g (lw_at lw_m7 224 rfl) rfl
theorem q1760 : (Jvm.Cond.methodLink "PlugHallLaw" (61 : Nat) ({ cls := "PlugHallModel", name := "empty", desc := "(I)I" } : Jvm.MethodName)) ∈ lw_all := lw_g (lw_at lw_m7 225 rfl) rfl
theorem q1761 : (Jvm.Cond.instanceMethod ({ cls := "PlugHallModel", name := "empty", desc := "(I)I" } : Jvm.MethodName)) ∈ lw_all := lw_g (lw_at lw_m7 226 rfl) rfl
theorem q1762 : (Jvm.Cond.selects "PlugHallModel" ({ cls := "PlugHallModel", name := "empty", desc := "(I)I" } : Jvm.MethodName) ({ cls := "PlugHallModel", name := "empty", desc := "(I)I" } : Jvm.MethodName)) ∈ lw_all := lw_g (lw_at lw_m7 227 rfl) rfl
theorem q1763 : (Jvm.Cond.code ({ cls := "PlugHallModel", name := "empty", desc := "(I)I" } : Jvm.MethodName) prog_14_method_14_code (3 : Nat) (Option.some Jvm.ClassFile.FieldType.int)) ∈ lw_all := lw_g (lw_at lw_m7 228 rfl) rfl
theorem q1764 : (Jvm.Cond.methodLink "PlugHallLaw" (69 : Nat) ({ cls := "PlugHallModel", name := "fault", desc := "()I" } : Jvm.MethodName)) ∈ lw_all := lw_g (lw_at lw_m7 229 rfl) rfl
theorem q1765 : (Jvm.Cond.instanceMethod ({ cls := "PlugHallModel", name := "fault", desc := "()I" } : Jvm.MethodName)) ∈ lw_all := lw_g (lw_at lw_m7 230 rfl) rfl
theorem q1766 : (Jvm.Cond.selects "PlugHallModel" ({ cls := "PlugHallModel", name := "fault", desc := "()I" } : Jvm.MethodName) ({ cls := "PlugHallModel", name := "fault", desc := "()I" } : Jvm.MethodName)) ∈ lw_all := lw_g (lw_at lw_m7 231 rfl) rfl
theorem q1767 : (Jvm.Cond.code ({ cls := "PlugHallModel", name := "fault", desc := "()I" } : Jvm.MethodName) prog_14_method_22_code (1 : Nat) (Option.some Jvm.ClassFile.FieldType.int)) ∈ lw_all := lw_g (lw_at lw_m7 232 rfl) rfl
theorem q1768 : (Jvm.Cond.methodLink "PlugHallLaw" (65 : Nat) ({ cls := "PlugHallModel", name := "board", desc := "()I" } : Jvm.MethodName)) ∈ lw_all := lw_g (lw_at lw_m7 233 rfl) rfl
theorem q1769 : (Jvm.Cond.instanceMethod ({ cls := "PlugHallModel", name := "board", desc := "()I" } : Jvm.MethodName)) ∈ lw_all := lw_g (lw_at lw_m7 234 rfl) rfl
theorem q1770 : (Jvm.Cond.selects "PlugHallModel" ({ cls := "PlugHallModel", name := "board", desc := "()I" } : Jvm.MethodName) ({ cls := "PlugHallModel", name := "board", desc := "()I" } : Jvm.MethodName)) ∈ lw_all := lw_g (lw_at lw_m7 235 rfl) rfl
theorem q1771 : (Jvm.Cond.code ({ cls := "PlugHallModel", name := "board", desc := "()I" } : Jvm.MethodName) prog_14_method_29_code (2 : Nat) (Option.some Jvm.ClassFile.FieldType.int)) ∈ lw_all := lw_g (lw_at lw_m7 236 rfl) rfl
theorem q1772 : (Jvm.Cond.methodLink "PlugHallModel" (262 : Nat) ({ cls := "PlugHallModel", name := "next", desc := "()V" } : Jvm.MethodName)) ∈ lw_all := lw_g (lw_at lw_m7 237 rfl) rfl
theorem q1773 : (Jvm.Cond.privateMethod ({ cls := "PlugHallModel", name := "next", desc := "()V" } : Jvm.MethodName)) ∈ lw_tbl := lw_at lw_m7 238 rfl
theorem q1774 : (Jvm.Cond.instanceMethod ({ cls := "PlugHallModel", name := "next", desc := "()V" } : Jvm.MethodName)) ∈ lw_all := lw_g (lw_at lw_m7 239 rfl) rfl
theorem q1775 : (Jvm.Cond.code ({ cls := "PlugHallModel", name := "next", desc := "()V" } : Jvm.MethodName) prog_14_method_18_code (3 : Nat) (Option.none : Option Jvm.ClassFile.FieldType)) ∈ lw_all := lw_g (lw_at lw_m8 0 rfl) rfl
theorem q1776 : (Jvm.Cond.methodLink "PlugHallModel" (226 : Nat) ({ cls := "PlugHallModel", name := "peek", desc := "()I" } : Jvm.MethodName)) ∈ lw_all := lw_g (lw_at lw_m8 1 rfl) rfl
theorem q1777 : (Jvm.Cond.privateMethod ({ cls := "PlugHallModel", name := "peek", desc := "()I" } : Jvm.MethodName)) ∈ lw_tbl := lw_at lw_m8 2 rfl
theorem q1778 : (Jvm.Cond.instanceMethod ({ cls := "PlugHallModel", name := "peek", desc := "()I" } : Jvm.MethodName)) ∈ lw_all := lw_g (lw_at lw_m8 3 rfl) rfl
theorem q1779 : (Jvm.Cond.code ({ cls := "PlugHallModel", name := "peek", desc := "()I" } : Jvm.MethodName) prog_14_method_15_code (1 : Nat) (Option.some Jvm.ClassFile.FieldType.int)) ∈ lw_all := lw_g (lw_at lw_m8 4 rfl) rfl
theorem q1780 : (Jvm.Cond.methodLink "PlugHallModel" (246 : Nat) ({ cls := "PlugHallModel", name := "isSmall", desc := "(I)Z" } : Jvm.MethodName)) ∈ lw_all := lw_g (lw_at lw_m8 5 rfl) rfl
theorem q1781 : (Jvm.Cond.static ({ cls := "PlugHallModel", name := "isSmall", desc := "(I)Z" } : Jvm.MethodName)) ∈ lw_all := lw_g (lw_at lw_m8 6 rfl) rfl
theorem q1782 : (Jvm.Cond.code ({ cls := "PlugHallModel", name := "isSmall", desc := "(I)Z" } : Jvm.MethodName) prog_14_method_16_code (1 : Nat) (Option.some Jvm.ClassFile.FieldType.boolean)) ∈ lw_all := lw_g (lw_at lw_m8 7 rfl) rfl
theorem q1783 : (Jvm.Cond.methodLink "PlugHallModel" (249 : Nat) ({ cls := "PlugHallModel", name := "isDigit", desc := "(I)Z" } : Jvm.MethodName)) ∈ lw_all := lw_g (lw_at lw_m8 8 rfl) rfl
theorem q1784 : (Jvm.Cond.static ({ cls := "PlugHallModel", name := "isDigit", desc := "(I)Z" } : Jvm.MethodName)) ∈ lw_all := lw_g (lw_at lw_m8 9 rfl) rfl
theorem q1785 : (Jvm.Cond.code ({ cls := "PlugHallModel", name := "isDigit", desc := "(I)Z" } : Jvm.MethodName) prog_14_method_17_code (1 : Nat) (Option.some Jvm.ClassFile.FieldType.boolean)) ∈ lw_all := lw_g (lw_at lw_m8 10 rfl) rfl
theorem q1786 : (Jvm.Cond.methodLink "PlugHallModel" (342 : Nat) ({ cls := "PlugHallModel", name := "read", desc := "()Z" } : Jvm.MethodName)) ∈ lw_all := lw_g (lw_at lw_m8 11 rfl) rfl
theorem q1787 : (Jvm.Cond.privateMethod ({ cls := "PlugHallModel", name := "read", desc := "()Z" } : Jvm.MethodName)) ∈ lw_tbl := lw_at lw_m8 12 rfl
theorem q1788 : (Jvm.Cond.instanceMethod ({ cls := "PlugHallModel", name := "read", desc := "()Z" } : Jvm.MethodName)) ∈ lw_all := lw_g (lw_at lw_m8 13 rfl) rfl
theorem q1789 : (Jvm.Cond.code ({ cls := "PlugHallModel", name := "read", desc := "()Z" } : Jvm.MethodName) prog_14_method_27_code (4 : Nat) (Option.some Jvm.ClassFile.FieldType.boolean)) ∈ lw_all := lw_g (lw_at lw_m8 14 rfl) rfl
theorem q1790 : (Jvm.Cond.methodLink "PlugHallModel" (326 : Nat) ({ cls := "PlugHallModel", name := "isHub", desc := "(J)Z" } : Jvm.MethodName)) ∈ lw_all := lw_g (lw_at lw_m8 15 rfl) rfl
theorem q1791 : (Jvm.Cond.privateMethod ({ cls := "PlugHallModel", name := "isHub", desc := "(J)Z" } : Jvm.MethodName)) ∈ lw_tbl := lw_at lw_m8 16 rfl
theorem q1792 : (Jvm.Cond.instanceMethod ({ cls := "PlugHallModel", name := "isHub", desc := "(J)Z" } : Jvm.MethodName)) ∈ lw_all := lw_g (lw_at lw_m8 17 rfl) rfl
theorem q1793 : (Jvm.Cond.code ({ cls := "PlugHallModel", name := "isHub", desc := "(J)Z" } : Jvm.MethodName) prog_14_method_23_code (3 : Nat) (Option.some Jvm.ClassFile.FieldType.boolean)) ∈ lw_all := lw_g (lw_at lw_m8 18 rfl) rfl
theorem q1794 : (Jvm.Cond.constantLong "PlugHallModel" (274 : Nat) (99 : Int64)) ∈ lw_all := lw_g (lw_at lw_m8 19 rfl) rfl
theorem q1795 : (Jvm.Cond.constantLong "PlugHallModel" (276 : Nat) (97 : Int64)) ∈ lw_all := lw_g (lw_at lw_m8 20 rfl) rfl
theorem q1796 : (Jvm.Cond.constantLong "PlugHallModel" (278 : Nat) (120 : Int64)) ∈ lw_all := lw_g (lw_at lw_m8 21 rfl) rfl
theorem q1797 : (Jvm.Cond.constantLong "PlugHallModel" (280 : Nat) (113 : Int64)) ∈ lw_all := lw_g (lw_at lw_m8 22 rfl) rfl
theorem q1798 : (Jvm.Cond.constantLong "PlugHallModel" (285 : Nat) (101 : Int64)) ∈ lw_all := lw_g (lw_at lw_m8 23 rfl) rfl
theorem q1799 : (Jvm.Cond.constantLong "PlugHallModel" (287 : Nat) (109 : Int64)) ∈ lw_all := lw_g (lw_at lw_m8 24 rfl) rfl
theorem q1800 : (Jvm.Cond.constantLong "PlugHallModel" (289 : Nat) (1751215220 : Int64)) ∈ lw_all := lw_g (lw_at lw_m8 25 rfl) rfl
theorem q1801 : (Jvm.Cond.constantLong "PlugHallModel" (291 : Nat) (117 : Int64)) ∈ lw_all := lw_g (lw_at lw_m8 26 rfl) rfl
theorem q1802 : (Jvm.Cond.constantLong "PlugHallModel" (293 : Nat) (122 : Int64)) ∈ lw_all := lw_g (lw_at lw_m8 27 rfl) rfl
theorem q1803 : (Jvm.Cond.constantLong "PlugHallModel" (295 : Nat) (1886156147 : Int64)) ∈ lw_all := lw_g (lw_at lw_m8 28 rfl) rfl
theorem q1804 : (Jvm.Cond.constantLong "PlugHallModel" (297 : Nat) (469920281971 : Int64)) ∈ lw_all := lw_g (lw_at lw_m8 29 rfl) rfl
theorem q1805 : (Jvm.Cond.constantLong "PlugHallModel" (299 : Nat) (427020345714 : Int64)) ∈ lw_all := lw_g (lw_at lw_m8 30 rfl) rfl
theorem q1806 : (Jvm.Cond.constantLong "PlugHallModel" (301 : Nat) (115 : Int64)) ∈ lw_all := lw_g (lw_at lw_m8 31 rfl) rfl
theorem q1807 : (Jvm.Cond.constantLong "PlugHallModel" (303 : Nat) (27489 : Int64)) ∈ lw_all := lw_g (lw_at lw_m8 32 rfl) rfl
theorem q1808 : (Jvm.Cond.constantLong "PlugHallModel" (305 : Nat) (27490 : Int64)) ∈ lw_all := lw_g (lw_at lw_m8 33 rfl) rfl
theorem q1809 : (Jvm.Cond.constantLong "PlugHallModel" (307 : Nat) (111 : Int64)) ∈ lw_all := lw_g (lw_at lw_m8 34 rfl) rfl
theorem q1810 : (Jvm.Cond.constantLong "PlugHallModel" (309 : Nat) (105 : Int64)) ∈ lw_all := lw_g (lw_at lw_m8 35 rfl) rfl
theorem q1811 : (Jvm.Cond.constantLong "PlugHallModel" (311 : Nat) (29283 : Int64)) ∈ lw_all := lw_g (lw_at lw_m8 36 rfl) rfl
theorem q1812 : (Jvm.Cond.constantLong "PlugHallModel" (313 : Nat) (29294 : Int64)) ∈ lw_all := lw_g (lw_at lw_m8 37 rfl) rfl
theorem q1813 : (Jvm.Cond.constantLong "PlugHallModel" (315 : Nat) (29300 : Int64)) ∈ lw_all := lw_g (lw_at lw_m8 38 rfl) rfl
theorem q1814 : (Jvm.Cond.constantLong "PlugHallModel" (317 : Nat) (112 : Int64)) ∈ lw_all := lw_g (lw_at lw_m8 39 rfl) rfl
theorem q1815 : (Jvm.Cond.constantLong "PlugHallModel" (319 : Nat) (116 : Int64)) ∈ lw_all := lw_g (lw_at lw_m8 40 rfl) rfl
theorem q1816 : (Jvm.Cond.constantLong "PlugHallModel" (321 : Nat) (98 : Int64)) ∈ lw_all := lw_g (lw_at lw_m8 41 rfl) rfl
theorem q1817 : (Jvm.Cond.methodLink "PlugHallModel" (258 : Nat) ({ cls := "PlugHallModel", name := "bad", desc := "(II)Z" } : Jvm.MethodName)) ∈ lw_all := lw_g (lw_at lw_m8 42 rfl) rfl
theorem q1818 : (Jvm.Cond.privateMethod ({ cls := "PlugHallModel", name := "bad", desc := "(II)Z" } : Jvm.MethodName)) ∈ lw_tbl := lw_at lw_m8 43 rfl
theorem q1819 : (Jvm.Cond.instanceMethod ({ cls := "PlugHallModel", name := "bad", desc := "(II)Z" } : Jvm.MethodName)) ∈ lw_all := lw_g (lw_at lw_m8 44 rfl) rfl
theorem q1820 : (Jvm.Cond.code ({ cls := "PlugHallModel", name := "bad", desc := "(II)Z" } : Jvm.MethodName) prog_14_method_19_code (3 : Nat) (Option.some Jvm.ClassFile.FieldType.boolean)) ∈ lw_all := lw_g (lw_at lw_m8 45 rfl) rfl
theorem q1821 : (Jvm.Cond.methodLink "PlugHallModel" (339 : Nat) ({ cls := "PlugHallModel", name := "hub", desc := "(I)I" } : Jvm.MethodName)) ∈ lw_all := lw_g (lw_at lw_m8 46 rfl) rfl
theorem q1822 : (Jvm.Cond.privateMethod ({ cls := "PlugHallModel", name := "hub", desc := "(I)I" } : Jvm.MethodName)) ∈ lw_tbl := lw_at lw_m8 47 rfl
theorem q1823 : (Jvm.Cond.instanceMethod ({ cls := "PlugHallModel", name := "hub", desc := "(I)I" } : Jvm.MethodName)) ∈ lw_all := lw_g (lw_at lw_m8 48 rfl) rfl
theorem q1824 : (Jvm.Cond.code ({ cls := "PlugHallModel", name := "hub", desc := "(I)I" } : Jvm.MethodName) prog_14_method_26_code (7 : Nat) (Option.some Jvm.ClassFile.FieldType.int)) ∈ lw_all := lw_g (lw_at lw_m8 49 rfl) rfl
theorem q1825 : (Jvm.Cond.methodLink "PlugHallModel" (330 : Nat) ({ cls := "PlugHallModel", name := "takes", desc := "(II)Z" } : Jvm.MethodName)) ∈ lw_all := lw_g (lw_at lw_m8 50 rfl) rfl
theorem q1826 : (Jvm.Cond.privateMethod ({ cls := "PlugHallModel", name := "takes", desc := "(II)Z" } : Jvm.MethodName)) ∈ lw_tbl := lw_at lw_m8 51 rfl
theorem q1827 : (Jvm.Cond.instanceMethod ({ cls := "PlugHallModel", name := "takes", desc := "(II)Z" } : Jvm.MethodName)) ∈ lw_all := lw_g (lw_at lw_m8 52 rfl) rfl
theorem q1828 : (Jvm.Cond.code ({ cls := "PlugHallModel", name := "takes", desc := "(II)Z" } : Jvm.MethodName) prog_14_method_21_code (3 : Nat) (Option.some Jvm.ClassFile.FieldType.boolean)) ∈ lw_all := lw_g (lw_at lw_m8 53 rfl) rfl
theorem q1829 : (Jvm.Cond.methodLink "PlugHallModel" (333 : Nat) ({ cls := "PlugHallModel", name := "sign", desc := "(I)Z" } : Jvm.MethodName)) ∈ lw_all := lw_g (lw_at lw_m8 54 rfl) rfl
theorem q1830 : (Jvm.Cond.privateMethod ({ cls := "PlugHallModel", name := "sign", desc := "(I)Z" } : Jvm.MethodName)) ∈ lw_tbl := lw_at lw_m8 55 rfl
theorem q1831 : (Jvm.Cond.instanceMethod ({ cls := "PlugHallModel", name := "sign", desc := "(I)Z" } : Jvm.MethodName)) ∈ lw_all := lw_g (lw_at lw_m8 56 rfl) rfl
theorem q1832 : (Jvm.Cond.code ({ cls := "PlugHallModel", name := "sign", desc := "(I)Z" } : Jvm.MethodName) prog_14_method_20_code (2 : Nat) (Option.some Jvm.ClassFile.FieldType.boolean)) ∈ lw_all := lw_g (lw_at lw_m8 57 rfl) rfl
theorem q1833 : (Jvm.Cond.methodLink "PlugHallModel" (336 : Nat) ({ cls := "PlugHallModel", name := "most", desc := "(I)I" } : Jvm.MethodName)) ∈ lw_all := lw_g (lw_at lw_m8 58 rfl) rfl
theorem q1834 : (Jvm.Cond.static ({ cls := "PlugHallModel", name := "most", desc := "(I)I" } : Jvm.MethodName)) ∈ lw_all := lw_g (lw_at lw_m8 59 rfl) rfl
theorem q1835 : (Jvm.Cond.code ({ cls := "PlugHallModel", name := "most", desc := "(I)I" } : Jvm.MethodName) prog_14_method_25_code (1 : Nat) (Option.some Jvm.ClassFile.FieldType.int)) ∈ lw_all := lw_g (lw_at lw_m8 60 rfl) rfl
theorem q1836 : (Jvm.Cond.methodLink "PlugHallModel" (323 : Nat) ({ cls := "PlugHallModel", name := "takesOnly", desc := "(I)Z" } : Jvm.MethodName)) ∈ lw_all := lw_g (lw_at lw_m8 61 rfl) rfl
theorem q1837 : (Jvm.Cond.static ({ cls := "PlugHallModel", name := "takesOnly", desc := "(I)Z" } : Jvm.MethodName)) ∈ lw_all := lw_g (lw_at lw_m8 62 rfl) rfl
theorem q1838 : (Jvm.Cond.code ({ cls := "PlugHallModel", name := "takesOnly", desc := "(I)Z" } : Jvm.MethodName) prog_14_method_24_code (1 : Nat) (Option.some Jvm.ClassFile.FieldType.boolean)) ∈ lw_all := lw_g (lw_at lw_m8 63 rfl) rfl
theorem q1839 : (Jvm.Cond.methodLink "PlugHallModel" (346 : Nat) ({ cls := "PlugHallModel", name := "copyBoard", desc := "(II)V" } : Jvm.MethodName)) ∈ lw_all := lw_g (lw_at lw_m8 64 rfl) rfl
theorem q1840 : (Jvm.Cond.privateMethod ({ cls := "PlugHallModel", name := "copyBoard", desc := "(II)V" } : Jvm.MethodName)) ∈ lw_tbl := lw_at lw_m8 65 rfl
theorem q1841 : (Jvm.Cond.instanceMethod ({ cls := "PlugHallModel", name := "copyBoard", desc := "(II)V" } : Jvm.MethodName)) ∈ lw_all := lw_g (lw_at lw_m8 66 rfl) rfl
theorem q1842 : (Jvm.Cond.code ({ cls := "PlugHallModel", name := "copyBoard", desc := "(II)V" } : Jvm.MethodName) prog_14_method_28_code (4 : Nat) (Option.none : Option Jvm.ClassFile.FieldType)) ∈ lw_all := lw_g (lw_at lw_m8 67 rfl) rfl
theorem q1843 : (Jvm.Cond.methodLink "PlugHallLaw" (73 : Nat) ({ cls := "PlugHallModel", name := "run", desc := "(II)I" } : Jvm.MethodName)) ∈ lw_all := lw_g (lw_at lw_m8 68 rfl) rfl
theorem q1844 : (Jvm.Cond.instanceMethod ({ cls := "PlugHallModel", name := "run", desc := "(II)I" } : Jvm.MethodName)) ∈ lw_all := lw_g (lw_at lw_m8 69 rfl) rfl
theorem q1845 : (Jvm.Cond.selects "PlugHallModel" ({ cls := "PlugHallModel", name := "run", desc := "(II)I" } : Jvm.MethodName) ({ cls := "PlugHallModel", name := "run", desc := "(II)I" } : Jvm.MethodName)) ∈ lw_all := lw_g (lw_at lw_m8 70 rfl) rfl
theorem q1846 : (Jvm.Cond.code ({ cls := "PlugHallModel", name := "run", desc := "(II)I" } : Jvm.MethodName) prog_14_method_45_code (4 : Nat) (Option.some Jvm.ClassFile.FieldType.int)) ∈ lw_all := lw_g (lw_at lw_m8 71 rfl) rfl
theorem q1847 : (Jvm.Cond.methodLink "PlugHallModel" (399 : Nat) ({ cls := "PlugHallModel", name := "load", desc := "(IIII)V" } : Jvm.MethodName)) ∈ lw_all := lw_g (lw_at lw_m8 72 rfl) rfl
theorem q1848 : (Jvm.Cond.privateMethod ({ cls := "PlugHallModel", name := "load", desc := "(IIII)V" } : Jvm.MethodName)) ∈ lw_tbl := lw_at lw_m8 73 rfl
theorem q1849 : (Jvm.Cond.instanceMethod ({ cls := "PlugHallModel", name := "load", desc := "(IIII)V" } : Jvm.MethodName)) ∈ lw_all := lw_g (lw_at lw_m8 74 rfl) rfl
theorem q1850 : (Jvm.Cond.code ({ cls := "PlugHallModel", name := "load", desc := "(IIII)V" } : Jvm.MethodName) prog_14_method_30_code (7 : Nat) (Option.none : Option Jvm.ClassFile.FieldType)) ∈ lw_all := lw_g (lw_at lw_m8 75 rfl) rfl
theorem q1851 : (Jvm.Cond.methodLink "PlugHallModel" (403 : Nat) ({ cls := "PlugHallModel", name := "play", desc := "(I)V" } : Jvm.MethodName)) ∈ lw_all := lw_g (lw_at lw_m8 76 rfl) rfl
theorem q1852 : (Jvm.Cond.privateMethod ({ cls := "PlugHallModel", name := "play", desc := "(I)V" } : Jvm.MethodName)) ∈ lw_tbl := lw_at lw_m8 77 rfl
theorem q1853 : (Jvm.Cond.instanceMethod ({ cls := "PlugHallModel", name := "play", desc := "(I)V" } : Jvm.MethodName)) ∈ lw_all := lw_g (lw_at lw_m8 78 rfl) rfl
theorem q1854 : (Jvm.Cond.code ({ cls := "PlugHallModel", name := "play", desc := "(I)V" } : Jvm.MethodName) prog_14_method_37_code (6 : Nat) (Option.none : Option Jvm.ClassFile.FieldType)) ∈ lw_all := lw_g (lw_at lw_m8 79 rfl) rfl
theorem q1855 : (Jvm.Cond.methodLink "PlugHallModel" (367 : Nat) ({ cls := "PlugHallModel", name := "nets", desc := "([IZ)V" } : Jvm.MethodName)) ∈ lw_all := lw_g (lw_at lw_m8 80 rfl) rfl
theorem q1856 : (Jvm.Cond.privateMethod ({ cls := "PlugHallModel", name := "nets", desc := "([IZ)V" } : Jvm.MethodName)) ∈ lw_tbl := lw_at lw_m8 81 rfl
theorem q1857 : (Jvm.Cond.instanceMethod ({ cls := "PlugHallModel", name := "nets", desc := "([IZ)V" } : Jvm.MethodName)) ∈ lw_all := lw_g (lw_at lw_m8 82 rfl) rfl
theorem q1858 : (Jvm.Cond.code ({ cls := "PlugHallModel", name := "nets", desc := "([IZ)V" } : Jvm.MethodName) prog_14_method_31_code (5 : Nat) (Option.none : Option Jvm.ClassFile.FieldType)) ∈ lw_all := lw_g (lw_at lw_m8 83 rfl) rfl
theorem q1859 : (Jvm.Cond.methodLink "PlugHallModel" (356 : Nat) ({ cls := "PlugHallModel", name := "joins", desc := "([III)Z" } : Jvm.MethodName)) ∈ lw_all := lw_g (lw_at lw_m8 84 rfl) rfl
theorem q1860 : (Jvm.Cond.static ({ cls := "PlugHallModel", name := "joins", desc := "([III)Z" } : Jvm.MethodName)) ∈ lw_all := lw_g (lw_at lw_m8 85 rfl) rfl
theorem q1861 : (Jvm.Cond.code ({ cls := "PlugHallModel", name := "joins", desc := "([III)Z" } : Jvm.MethodName) prog_14_method_32_code (4 : Nat) (Option.some Jvm.ClassFile.FieldType.boolean)) ∈ lw_all := lw_g (lw_at lw_m8 86 rfl) rfl
theorem q1862 : (Jvm.Cond.methodLink "PlugHallModel" (371 : Nat) ({ cls := "PlugHallModel", name := "digit", desc := "(II)I" } : Jvm.MethodName)) ∈ lw_all := lw_g (lw_at lw_m8 87 rfl) rfl
theorem q1863 : (Jvm.Cond.privateMethod ({ cls := "PlugHallModel", name := "digit", desc := "(II)I" } : Jvm.MethodName)) ∈ lw_tbl := lw_at lw_m8 88 rfl
theorem q1864 : (Jvm.Cond.instanceMethod ({ cls := "PlugHallModel", name := "digit", desc := "(II)I" } : Jvm.MethodName)) ∈ lw_all := lw_g (lw_at lw_m8 89 rfl) rfl
theorem q1865 : (Jvm.Cond.code ({ cls := "PlugHallModel", name := "digit", desc := "(II)I" } : Jvm.MethodName) prog_14_method_36_code (4 : Nat) (Option.some Jvm.ClassFile.FieldType.int)) ∈ lw_all := lw_g (lw_at lw_m8 90 rfl) rfl
theorem q1866 : (Jvm.Cond.methodLink "PlugHallModel" (375 : Nat) ({ cls := "PlugHallModel", name := "cycle", desc := "(Z)I" } : Jvm.MethodName)) ∈ lw_all := lw_g (lw_at lw_m8 91 rfl) rfl
theorem q1867 : (Jvm.Cond.privateMethod ({ cls := "PlugHallModel", name := "cycle", desc := "(Z)I" } : Jvm.MethodName)) ∈ lw_tbl := lw_at lw_m8 92 rfl
theorem q1868 : (Jvm.Cond.instanceMethod ({ cls := "PlugHallModel", name := "cycle", desc := "(Z)I" } : Jvm.MethodName)) ∈ lw_all := lw_g (lw_at lw_m8 93 rfl) rfl
theorem q1869 : (Jvm.Cond.code ({ cls := "PlugHallModel", name := "cycle", desc := "(Z)I" } : Jvm.MethodName) prog_14_method_39_code (4 : Nat) (Option.some Jvm.ClassFile.FieldType.int)) ∈ lw_all := lw_g (lw_at lw_m8 94 rfl) rfl
theorem q1870 : (Jvm.Cond.methodLink "PlugHallModel" (385 : Nat) ({ cls := "PlugHallModel", name := "gather", desc := "([IZ)V" } : Jvm.MethodName)) ∈ lw_all := lw_g (lw_at lw_m8 95 rfl) rfl
theorem q1871 : (Jvm.Cond.privateMethod ({ cls := "PlugHallModel", name := "gather", desc := "([IZ)V" } : Jvm.MethodName)) ∈ lw_tbl := lw_at lw_m8 96 rfl
theorem q1872 : (Jvm.Cond.instanceMethod ({ cls := "PlugHallModel", name := "gather", desc := "([IZ)V" } : Jvm.MethodName)) ∈ lw_all := lw_g (lw_at lw_m8 97 rfl) rfl
theorem q1873 : (Jvm.Cond.code ({ cls := "PlugHallModel", name := "gather", desc := "([IZ)V" } : Jvm.MethodName) prog_14_method_33_code (5 : Nat) (Option.none : Option Jvm.ClassFile.FieldType)) ∈ lw_all := lw_g (lw_at lw_m8 98 rfl) rfl
theorem q1874 : (Jvm.Cond.methodLink "PlugHallModel" (379 : Nat) ({ cls := "PlugHallModel", name := "have", desc := "(I)I" } : Jvm.MethodName)) ∈ lw_all := lw_g (lw_at lw_m8 99 rfl) rfl
theorem q1875 : (Jvm.Cond.privateMethod ({ cls := "PlugHallModel", name := "have", desc := "(I)I" } : Jvm.MethodName)) ∈ lw_tbl := lw_at lw_m8 100 rfl
theorem q1876 : (Jvm.Cond.instanceMethod ({ cls := "PlugHallModel", name := "have", desc := "(I)I" } : Jvm.MethodName)) ∈ lw_all := lw_g (lw_at lw_m8 101 rfl) rfl
theorem q1877 : (Jvm.Cond.code ({ cls := "PlugHallModel", name := "have", desc := "(I)I" } : Jvm.MethodName) prog_14_method_35_code (2 : Nat) (Option.some Jvm.ClassFile.FieldType.int)) ∈ lw_all := lw_g (lw_at lw_m8 102 rfl) rfl
theorem q1878 : (Jvm.Cond.methodLink "PlugHallModel" (360 : Nat) ({ cls := "PlugHallModel", name := "take", desc := "([II)I" } : Jvm.MethodName)) ∈ lw_all := lw_g (lw_at lw_m8 103 rfl) rfl
theorem q1879 : (Jvm.Cond.privateMethod ({ cls := "PlugHallModel", name := "take", desc := "([II)I" } : Jvm.MethodName)) ∈ lw_tbl := lw_at lw_m8 104 rfl
theorem q1880 : (Jvm.Cond.instanceMethod ({ cls := "PlugHallModel", name := "take", desc := "([II)I" } : Jvm.MethodName)) ∈ lw_all := lw_g (lw_at lw_m8 105 rfl) rfl
theorem q1881 : (Jvm.Cond.code ({ cls := "PlugHallModel", name := "take", desc := "([II)I" } : Jvm.MethodName) prog_14_method_34_code (3 : Nat) (Option.some Jvm.ClassFile.FieldType.int)) ∈ lw_all := lw_g (lw_at lw_m8 106 rfl) rfl
theorem q1882 : (Jvm.Cond.methodLink "PlugHallModel" (388 : Nat) ({ cls := "PlugHallModel", name := "jam", desc := "(I)I" } : Jvm.MethodName)) ∈ lw_all := lw_g (lw_at lw_m8 107 rfl) rfl
theorem q1883 : (Jvm.Cond.privateMethod ({ cls := "PlugHallModel", name := "jam", desc := "(I)I" } : Jvm.MethodName)) ∈ lw_tbl := lw_at lw_m8 108 rfl
theorem q1884 : (Jvm.Cond.instanceMethod ({ cls := "PlugHallModel", name := "jam", desc := "(I)I" } : Jvm.MethodName)) ∈ lw_all := lw_g (lw_at lw_m8 109 rfl) rfl
theorem q1885 : (Jvm.Cond.code ({ cls := "PlugHallModel", name := "jam", desc := "(I)I" } : Jvm.MethodName) prog_14_method_40_code (3 : Nat) (Option.some Jvm.ClassFile.FieldType.int)) ∈ lw_all := lw_g (lw_at lw_m8 110 rfl) rfl
theorem q1886 : (Jvm.Cond.methodLink "PlugHallModel" (391 : Nat) ({ cls := "PlugHallModel", name := "prints", desc := "()Z" } : Jvm.MethodName)) ∈ lw_all := lw_g (lw_at lw_m8 111 rfl) rfl
theorem q1887 : (Jvm.Cond.privateMethod ({ cls := "PlugHallModel", name := "prints", desc := "()Z" } : Jvm.MethodName)) ∈ lw_tbl := lw_at lw_m8 112 rfl
theorem q1888 : (Jvm.Cond.instanceMethod ({ cls := "PlugHallModel", name := "prints", desc := "()Z" } : Jvm.MethodName)) ∈ lw_all := lw_g (lw_at lw_m8 113 rfl) rfl
theorem q1889 : (Jvm.Cond.code ({ cls := "PlugHallModel", name := "prints", desc := "()Z" } : Jvm.MethodName) prog_14_method_41_code (2 : Nat) (Option.some Jvm.ClassFile.FieldType.boolean)) ∈ lw_all := lw_g (lw_at lw_m8 114 rfl) rfl
theorem q1890 : (Jvm.Cond.methodLink "PlugHallModel" (393 : Nat) ({ cls := "PlugHallModel", name := "turn", desc := "(I)V" } : Jvm.MethodName)) ∈ lw_all := lw_g (lw_at lw_m8 115 rfl) rfl
theorem q1891 : (Jvm.Cond.privateMethod ({ cls := "PlugHallModel", name := "turn", desc := "(I)V" } : Jvm.MethodName)) ∈ lw_tbl := lw_at lw_m8 116 rfl
theorem q1892 : (Jvm.Cond.instanceMethod ({ cls := "PlugHallModel", name := "turn", desc := "(I)V" } : Jvm.MethodName)) ∈ lw_all := lw_g (lw_at lw_m8 117 rfl) rfl
theorem q1893 : (Jvm.Cond.code ({ cls := "PlugHallModel", name := "turn", desc := "(I)V" } : Jvm.MethodName) prog_14_method_42_code (5 : Nat) (Option.none : Option Jvm.ClassFile.FieldType)) ∈ lw_all := lw_g (lw_at lw_m8 118 rfl) rfl
theorem q1894 : (Jvm.Cond.constant "PlugHallModel" (396 : Nat) (-999999 : Int32)) ∈ lw_all := lw_g (lw_at lw_m8 119 rfl) rfl
theorem q1895 : (Jvm.Cond.constant "PlugHallModel" (397 : Nat) (999999 : Int32)) ∈ lw_all := lw_g (lw_at lw_m8 120 rfl) rfl
theorem q1896 : (Jvm.Cond.constant "PlugHallModel" (398 : Nat) (1000000 : Int32)) ∈ lw_all := lw_g (lw_at lw_m8 121 rfl) rfl
theorem q1897 : (Jvm.Cond.methodLink "PlugHallModel" (382 : Nat) ({ cls := "PlugHallModel", name := "total", desc := "(I)V" } : Jvm.MethodName)) ∈ lw_all := lw_g (lw_at lw_m8 122 rfl) rfl
theorem q1898 : (Jvm.Cond.privateMethod ({ cls := "PlugHallModel", name := "total", desc := "(I)V" } : Jvm.MethodName)) ∈ lw_tbl := lw_at lw_m8 123 rfl
theorem q1899 : (Jvm.Cond.instanceMethod ({ cls := "PlugHallModel", name := "total", desc := "(I)V" } : Jvm.MethodName)) ∈ lw_all := lw_g (lw_at lw_m8 124 rfl) rfl
theorem q1900 : (Jvm.Cond.code ({ cls := "PlugHallModel", name := "total", desc := "(I)V" } : Jvm.MethodName) prog_14_method_38_code (5 : Nat) (Option.none : Option Jvm.ClassFile.FieldType)) ∈ lw_all := lw_g (lw_at lw_m8 125 rfl) rfl
theorem q1901 : (Jvm.Cond.methodLink "PlugHallModel" (406 : Nat) ({ cls := "PlugHallModel", name := "keepRun", desc := "(I)V" } : Jvm.MethodName)) ∈ lw_all := lw_g (lw_at lw_m8 126 rfl) rfl
theorem q1902 : (Jvm.Cond.privateMethod ({ cls := "PlugHallModel", name := "keepRun", desc := "(I)V" } : Jvm.MethodName)) ∈ lw_tbl := lw_at lw_m8 127 rfl
theorem q1903 : (Jvm.Cond.instanceMethod ({ cls := "PlugHallModel", name := "keepRun", desc := "(I)V" } : Jvm.MethodName)) ∈ lw_all := lw_g (lw_at lw_m8 128 rfl) rfl
theorem q1904 : (Jvm.Cond.code ({ cls := "PlugHallModel", name := "keepRun", desc := "(I)V" } : Jvm.MethodName) prog_14_method_43_code (3 : Nat) (Option.none : Option Jvm.ClassFile.FieldType)) ∈ lw_all := lw_g (lw_at lw_m8 129 rfl) rfl
theorem q1905 : (Jvm.Cond.methodLink "PlugHallLaw" (77 : Nat) ({ cls := "PlugHallModel", name := "ran", desc := "(I)I" } : Jvm.MethodName)) ∈ lw_all := lw_g (lw_at lw_m8 130 rfl) rfl
theorem q1906 : (Jvm.Cond.instanceMethod ({ cls := "PlugHallModel", name := "ran", desc := "(I)I" } : Jvm.MethodName)) ∈ lw_all := lw_g (lw_at lw_m8 131 rfl) rfl
theorem q1907 : (Jvm.Cond.selects "PlugHallModel" ({ cls := "PlugHallModel", name := "ran", desc := "(I)I" } : Jvm.MethodName) ({ cls := "PlugHallModel", name := "ran", desc := "(I)I" } : Jvm.MethodName)) ∈ lw_all := lw_g (lw_at lw_m8 132 rfl) rfl
theorem q1908 : (Jvm.Cond.code ({ cls := "PlugHallModel", name := "ran", desc := "(I)I" } : Jvm.MethodName) prog_14_method_46_code (2 : Nat) (Option.some Jvm.ClassFile.FieldType.int)) ∈ lw_all := lw_g (lw_at lw_m8 133 rfl) rfl
theorem q1909 : (Jvm.Cond.methodLink "PlugHallLaw" (81 : Nat) ({ cls := "PlugHallModel", name := "bar", desc := "(II)I" } : Jvm.MethodName)) ∈ lw_all := lw_g (lw_at lw_m8 134 rfl) rfl
theorem q1910 : (Jvm.Cond.instanceMethod ({ cls := "PlugHallModel", name := "bar", desc := "(II)I" } : Jvm.MethodName)) ∈ lw_all := lw_g (lw_at lw_m8 135 rfl) rfl
theorem q1911 : (Jvm.Cond.selects "PlugHallModel" ({ cls := "PlugHallModel", name := "bar", desc := "(II)I" } : Jvm.MethodName) ({ cls := "PlugHallModel", name := "bar", desc := "(II)I" } : Jvm.MethodName)) ∈ lw_all := lw_g (lw_at lw_m8 136 rfl) rfl
theorem q1912 : (Jvm.Cond.code ({ cls := "PlugHallModel", name := "bar", desc := "(II)I" } : Jvm.MethodName) prog_14_method_47_code (3 : Nat) (Option.some Jvm.ClassFile.FieldType.int)) ∈ lw_all := lw_g (lw_at lw_m8 137 rfl) rfl
theorem q1913 : (Jvm.Cond.methodLink "PlugHallLaw" (85 : Nat) ({ cls := "PlugHallModel", name := "wheel", desc := "(I)I" } : Jvm.MethodName)) ∈ lw_all := lw_g (lw_at lw_m8 138 rfl) rfl
theorem q1914 : (Jvm.Cond.instanceMethod ({ cls := "PlugHallModel", name := "wheel", desc := "(I)I" } : Jvm.MethodName)) ∈ lw_all := lw_g (lw_at lw_m8 139 rfl) rfl
theorem q1915 : (Jvm.Cond.selects "PlugHallModel" ({ cls := "PlugHallModel", name := "wheel", desc := "(I)I" } : Jvm.MethodName) ({ cls := "PlugHallModel", name := "wheel", desc := "(I)I" } : Jvm.MethodName)) ∈ lw_all := lw_g (lw_at lw_m8 140 rfl) rfl
theorem q1916 : (Jvm.Cond.code ({ cls := "PlugHallModel", name := "wheel", desc := "(I)I" } : Jvm.MethodName) prog_14_method_48_code (2 : Nat) (Option.some Jvm.ClassFile.FieldType.int)) ∈ lw_all := lw_g (lw_at lw_m8 141 rfl) rfl
theorem q1917 : (Jvm.Cond.methodLink "PlugHallLaw" (90 : Nat) ({ cls := "PlugHallModel", name := "pass", desc := "(II)Z" } : Jvm.MethodName)) ∈ lw_all := lw_g (lw_at lw_m8 142 rfl) rfl
theorem q1918 : (Jvm.Cond.instanceMethod ({ cls := "PlugHallModel", name := "pass", desc := "(II)Z" } : Jvm.MethodName)) ∈ lw_all := lw_g (lw_at lw_m8 143 rfl) rfl
theorem q1919 : (Jvm.Cond.selects "PlugHallModel" ({ cls := "PlugHallModel", name := "pass", desc := "(II)Z" } : Jvm.MethodName) ({ cls := "PlugHallModel", name := "pass", desc := "(II)Z" } : Jvm.MethodName)) ∈ lw_all := lw_g (lw_at lw_m8 144 rfl) rfl
theorem q1920 : (Jvm.Cond.code ({ cls := "PlugHallModel", name := "pass", desc := "(II)Z" } : Jvm.MethodName) prog_14_method_50_code (5 : Nat) (Option.some Jvm.ClassFile.FieldType.boolean)) ∈ lw_all := lw_g (lw_at lw_m8 145 rfl) rfl
theorem q1921 : (Jvm.Cond.methodLink "PlugHallModel" (413 : Nat) ({ cls := "PlugHallModel", name := "sort", desc := "(II)V" } : Jvm.MethodName)) ∈ lw_all := lw_g (lw_at lw_m8 146 rfl) rfl
theorem q1922 : (Jvm.Cond.privateMethod ({ cls := "PlugHallModel", name := "sort", desc := "(II)V" } : Jvm.MethodName)) ∈ lw_tbl := lw_at lw_m8 147 rfl
theorem q1923 : (Jvm.Cond.instanceMethod ({ cls := "PlugHallModel", name := "sort", desc := "(II)V" } : Jvm.MethodName)) ∈ lw_all := lw_g (lw_at lw_m8 148 rfl) rfl
theorem q1924 : (Jvm.Cond.code ({ cls := "PlugHallModel", name := "sort", desc := "(II)V" } : Jvm.MethodName) prog_14_method_49_code (8 : Nat) (Option.none : Option Jvm.ClassFile.FieldType)) ∈ lw_all := lw_g (lw_at lw_m8 149 rfl) rfl
theorem q1925 : (Jvm.Cond.methodLink "PlugHallLaw" (145 : Nat) ({ cls := "PlugHallModel", name := "needed", desc := "(I)I" } : Jvm.MethodName)) ∈ lw_all := lw_g (lw_at lw_m8 150 rfl) rfl
theorem q1926 : (Jvm.Cond.instanceMethod ({ cls := "PlugHallModel", name := "needed", desc := "(I)I" } : Jvm.MethodName)) ∈ lw_all := lw_g (lw_at lw_m8 151 rfl) rfl
theorem q1927 : (Jvm.Cond.selects "PlugHallModel" ({ cls := "PlugHallModel", name := "needed", desc := "(I)I" } : Jvm.MethodName) ({ cls := "PlugHallModel", name := "needed", desc := "(I)I" } : Jvm.MethodName)) ∈ lw_all := lw_g (lw_at lw_m8 152 rfl) rfl
theorem q1928 : (Jvm.Cond.code ({ cls := "PlugHallModel", name := "needed", desc := "(I)I" } : Jvm.MethodName) prog_14_method_53_code (5 : Nat) (Option.some Jvm.ClassFile.FieldType.int)) ∈ lw_all := lw_g (lw_at lw_m8 153 rfl) rfl
theorem q1929 : (Jvm.Cond.methodLink "PlugHallModel" (416 : Nat) ({ cls := "PlugHallModel", name := "bits", desc := "(J)I" } : Jvm.MethodName)) ∈ lw_all := lw_g (lw_at lw_m8 154 rfl) rfl
theorem q1930 : (Jvm.Cond.static ({ cls := "PlugHallModel", name := "bits", desc := "(J)I" } : Jvm.MethodName)) ∈ lw_all := lw_g (lw_at lw_m8 155 rfl) rfl
theorem q1931 : (Jvm.Cond.code ({ cls := "PlugHallModel", name := "bits", desc := "(J)I" } : Jvm.MethodName) prog_14_method_52_code (5 : Nat) (Option.some Jvm.ClassFile.FieldType.int)) ∈ lw_all := lw_g (lw_at lw_m8 156 rfl) rfl
theorem q1932 : (Jvm.Cond.methodLink "PlugHallModel" (420 : Nat) ({ cls := "PlugHallModel", name := "isOrdered", desc := "(II)Z" } : Jvm.MethodName)) ∈ lw_all := lw_g (lw_at lw_m8 157 rfl) rfl
theorem q1933 : (Jvm.Cond.privateMethod ({ cls := "PlugHallModel", name := "isOrdered", desc := "(II)Z" } : Jvm.MethodName)) ∈ lw_tbl := lw_at lw_m8 158 rfl
theorem q1934 : (Jvm.Cond.instanceMethod ({ cls := "PlugHallModel", name := "isOrdered", desc := "(II)Z" } : Jvm.MethodName)) ∈ lw_all := lw_g (lw_at lw_m8 159 rfl) rfl
theorem q1935 : (Jvm.Cond.code ({ cls := "PlugHallModel", name := "isOrdered", desc := "(II)Z" } : Jvm.MethodName) prog_14_method_51_code (8 : Nat) (Option.some Jvm.ClassFile.FieldType.boolean)) ∈ lw_all := lw_g (lw_at lw_m8 160 rfl) rfl
theorem q1936 : (Jvm.Cond.methodLink "PlugHallLaw" (149 : Nat) ({ cls := "PlugHallModel", name := "neededSet", desc := "()I" } : Jvm.MethodName)) ∈ lw_all := lw_g (lw_at lw_m8 161 rfl) rfl
theorem q1937 : (Jvm.Cond.instanceMethod ({ cls := "PlugHallModel", name := "neededSet", desc := "()I" } : Jvm.MethodName)) ∈ lw_all := lw_g (lw_at lw_m8 162 rfl) rfl
theorem q1938 : (Jvm.Cond.selects "PlugHallModel" ({ cls := "PlugHallModel", name := "neededSet", desc := "()I" } : Jvm.MethodName) ({ cls := "PlugHallModel", name := "neededSet", desc := "()I" } : Jvm.MethodName)) ∈ lw_all := lw_g (lw_at lw_m8 163 rfl) rfl
theorem q1939 : (Jvm.Cond.code ({ cls := "PlugHallModel", name := "neededSet", desc := "()I" } : Jvm.MethodName) prog_14_method_54_code (1 : Nat) (Option.some Jvm.ClassFile.FieldType.int)) ∈ lw_all := lw_g (lw_at lw_m8 164 rfl) rfl
theorem q1940 : (Jvm.Cond.methodLink "PlugHallLaw" (94 : Nat) ({ cls := "PlugHallModel", name := "idle", desc := "(I)I" } : Jvm.MethodName)) ∈ lw_all := lw_g (lw_at lw_m8 165 rfl) rfl
theorem q1941 : (Jvm.Cond.instanceMethod ({ cls := "PlugHallModel", name := "idle", desc := "(I)I" } : Jvm.MethodName)) ∈ lw_all := lw_g (lw_at lw_m8 166 rfl) rfl
theorem q1942 : (Jvm.Cond.selects "PlugHallModel" ({ cls := "PlugHallModel", name := "idle", desc := "(I)I" } : Jvm.MethodName) ({ cls := "PlugHallModel", name := "idle", desc := "(I)I" } : Jvm.MethodName)) ∈ lw_all := lw_g (lw_at lw_m8 167 rfl) rfl
theorem q1943 : (Jvm.Cond.code ({ cls := "PlugHallModel", name := "idle", desc := "(I)I" } : Jvm.MethodName) prog_14_method_55_code (3 : Nat) (Option.some Jvm.ClassFile.FieldType.int)) ∈ lw_all := lw_g (lw_at lw_m8 168 rfl) rfl
theorem q1944 : (Jvm.Cond.methodLink "PlugHallModel" (429 : Nat) ({ cls := "PlugHallModel", name := "isLike", desc := "(I)Z" } : Jvm.MethodName)) ∈ lw_all := lw_g (lw_at lw_m8 169 rfl) rfl
theorem q1945 : (Jvm.Cond.privateMethod ({ cls := "PlugHallModel", name := "isLike", desc := "(I)Z" } : Jvm.MethodName)) ∈ lw_tbl := lw_at lw_m8 170 rfl
theorem q1946 : (Jvm.Cond.instanceMethod ({ cls := "PlugHallModel", name := "isLike", desc := "(I)Z" } : Jvm.MethodName)) ∈ lw_all := lw_g (lw_at lw_m8 171 rfl) rfl
theorem q1947 : (Jvm.Cond.code ({ cls := "PlugHallModel", name := "isLike", desc := "(I)Z" } : Jvm.MethodName) prog_14_method_44_code (3 : Nat) (Option.some Jvm.ClassFile.FieldType.boolean)) ∈ lw_all := lw_g (lw_at lw_m8 172 rfl) rfl
theorem q1948 : (Jvm.Cond.methodLink "PlugHallLaw" (98 : Nat) ({ cls := "PlugHallModel", name := "missing", desc := "(I)I" } : Jvm.MethodName)) ∈ lw_all := lw_g (lw_at lw_m8 173 rfl) rfl
theorem q1949 : (Jvm.Cond.instanceMethod ({ cls := "PlugHallModel", name := "missing", desc := "(I)I" } : Jvm.MethodName)) ∈ lw_all := lw_g (lw_at lw_m8 174 rfl) rfl
theorem q1950 : (Jvm.Cond.selects "PlugHallModel" ({ cls := "PlugHallModel", name := "missing", desc := "(I)I" } : Jvm.MethodName) ({ cls := "PlugHallModel", name := "missing", desc := "(I)I" } : Jvm.MethodName)) ∈ lw_all := lw_g (lw_at lw_m8 175 rfl) rfl
theorem q1951 : (Jvm.Cond.code ({ cls := "PlugHallModel", name := "missing", desc := "(I)I" } : Jvm.MethodName) prog_14_method_58_code (3 : Nat) (Option.some Jvm.ClassFile.FieldType.int)) ∈ lw_all := lw_g (lw_at lw_m8 176 rfl) rfl
theorem q1952 : (Jvm.Cond.methodLink "PlugHallModel" (435 : Nat) ({ cls := "PlugHallModel", name := "takeLines", desc := "()Z" } : Jvm.MethodName)) ∈ lw_all := lw_g (lw_at lw_m8 177 rfl) rfl
theorem q1953 : (Jvm.Cond.privateMethod ({ cls := "PlugHallModel", name := "takeLines", desc := "()Z" } : Jvm.MethodName)) ∈ lw_tbl := lw_at lw_m8 178 rfl
theorem q1954 : (Jvm.Cond.instanceMethod ({ cls := "PlugHallModel", name := "takeLines", desc := "()Z" } : Jvm.MethodName)) ∈ lw_all := lw_g (lw_at lw_m8 179 rfl) rfl
theorem q1955 : (Jvm.Cond.code ({ cls := "PlugHallModel", name := "takeLines", desc := "()Z" } : Jvm.MethodName) prog_14_method_56_code (2 : Nat) (Option.some Jvm.ClassFile.FieldType.boolean)) ∈ lw_all := lw_g (lw_at lw_m8 180 rfl) rfl
theorem q1956 : (Jvm.Cond.methodLink "PlugHallModel" (438 : Nat) ({ cls := "PlugHallModel", name := "isWanted", desc := "()Z" } : Jvm.MethodName)) ∈ lw_all := lw_g (lw_at lw_m8 181 rfl) rfl
theorem q1957 : (Jvm.Cond.privateMethod ({ cls := "PlugHallModel", name := "isWanted", desc := "()Z" } : Jvm.MethodName)) ∈ lw_tbl := lw_at lw_m8 182 rfl
theorem q1958 : (Jvm.Cond.instanceMethod ({ cls := "PlugHallModel", name := "isWanted", desc := "()Z" } : Jvm.MethodName)) ∈ lw_all := lw_g (lw_at lw_m8 183 rfl) rfl
theorem q1959 : (Jvm.Cond.code ({ cls := "PlugHallModel", name := "isWanted", desc := "()Z" } : Jvm.MethodName) prog_14_method_57_code (2 : Nat) (Option.some Jvm.ClassFile.FieldType.boolean)) ∈ lw_all := lw_g (lw_at lw_m8 184 rfl) rfl
theorem q1960 : (Jvm.Cond.methodLink "PlugHallLaw" (102 : Nat) ({ cls := "PlugHallModel", name := "wire", desc := "(I)I" } : Jvm.MethodName)) ∈ lw_all := lw_g (lw_at lw_m8 185 rfl) rfl
theorem q1961 : (Jvm.Cond.instanceMethod ({ cls := "PlugHallModel", name := "wire", desc := "(I)I" } : Jvm.MethodName)) ∈ lw_all := lw_g (lw_at lw_m8 186 rfl) rfl
theorem q1962 : (Jvm.Cond.selects "PlugHallModel" ({ cls := "PlugHallModel", name := "wire", desc := "(I)I" } : Jvm.MethodName) ({ cls := "PlugHallModel", name := "wire", desc := "(I)I" } : Jvm.MethodName)) ∈ lw_all := lw_g (lw_at lw_m8 187 rfl) rfl
theorem q1963 : (Jvm.Cond.code ({ cls := "PlugHallModel", name := "wire", desc := "(I)I" } : Jvm.MethodName) prog_14_method_59_code (2 : Nat) (Option.some Jvm.ClassFile.FieldType.int)) ∈ lw_all := lw_g (lw_at lw_m8 188 rfl) rfl
theorem q1964 : (Jvm.Cond.methodLink "PlugHallLaw" (106 : Nat) ({ cls := "PlugHallModel", name := "tests", desc := "(I)I" } : Jvm.MethodName)) ∈ lw_all := lw_g (lw_at lw_m8 189 rfl) rfl
theorem q1965 : (Jvm.Cond.instanceMethod ({ cls := "PlugHallModel", name := "tests", desc := "(I)I" } : Jvm.MethodName)) ∈ lw_all := lw_g (lw_at lw_m8 190 rfl) rfl
theorem q1966 : (Jvm.Cond.selects "PlugHallModel" ({ cls := "PlugHallModel", name := "tests", desc := "(I)I" } : Jvm.MethodName) ({ cls := "PlugHallModel", name := "tests", desc := "(I)I" } : Jvm.MethodName)) ∈ lw_all := lw_g (lw_at lw_m8 191 rfl) rfl
theorem q1967 : (Jvm.Cond.code ({ cls := "PlugHallModel", name := "tests", desc := "(I)I" } : Jvm.MethodName) prog_14_method_60_code (10 : Nat) (Option.some Jvm.ClassFile.FieldType.int)) ∈ lw_all := lw_g (lw_at lw_m8 192 rfl) rfl
theorem q1968 : (Jvm.Cond.methodLink "PlugHallLaw" (110 : Nat) ({ cls := "PlugHallModel", name := "testSet", desc := "()I" } : Jvm.MethodName)) ∈ lw_all := lw_g (lw_at lw_m8 193 rfl) rfl
theorem q1969 : (Jvm.Cond.instanceMethod ({ cls := "PlugHallModel", name := "testSet", desc := "()I" } : Jvm.MethodName)) ∈ lw_all := lw_g (lw_at lw_m8 194 rfl) rfl
theorem q1970 : (Jvm.Cond.selects "PlugHallModel" ({ cls := "PlugHallModel", name := "testSet", desc := "()I" } : Jvm.MethodName) ({ cls := "PlugHallModel", name := "testSet", desc := "()I" } : Jvm.MethodName)) ∈ lw_all := lw_g (lw_at lw_m8 195 rfl) rfl
theorem q1971 : (Jvm.Cond.code ({ cls := "PlugHallModel", name := "testSet", desc := "()I" } : Jvm.MethodName) prog_14_method_61_code (1 : Nat) (Option.some Jvm.ClassFile.FieldType.int)) ∈ lw_all := lw_g (lw_at lw_m8 196 rfl) rfl
theorem q1972 : (Jvm.Cond.methodLink "PlugHallLaw" (114 : Nat) ({ cls := "PlugHallModel", name := "shown", desc := "()I" } : Jvm.MethodName)) ∈ lw_all := lw_g (lw_at lw_m8 197 rfl) rfl
theorem q1973 : (Jvm.Cond.instanceMethod ({ cls := "PlugHallModel", name := "shown", desc := "()I" } : Jvm.MethodName)) ∈ lw_all := lw_g (lw_at lw_m8 198 rfl) rfl
theorem q1974 : (Jvm.Cond.selects "PlugHallModel" ({ cls := "PlugHallModel", name := "shown", desc := "()I" } : Jvm.MethodName) ({ cls := "PlugHallModel", name := "shown", desc := "()I" } : Jvm.MethodName)) ∈ lw_all := lw_g (lw_at lw_m8 199 rfl) rfl
theorem q1975 : (Jvm.Cond.code ({ cls := "PlugHallModel", name := "shown", desc := "()I" } : Jvm.MethodName) prog_14_method_62_code (1 : Nat) (Option.some Jvm.ClassFile.FieldType.int)) ∈ lw_all := lw_g (lw_at lw_m8 200 rfl) rfl
theorem q1976 : (Jvm.Cond.methodLink "PlugHallLaw" (153 : Nat) ({ cls := "PlugHallModel", name := "unseen", desc := "(I)I" } : Jvm.MethodName)) ∈ lw_all := lw_g (lw_at lw_m8 201 rfl) rfl
theorem q1977 : (Jvm.Cond.instanceMethod ({ cls := "PlugHallModel", name := "unseen", desc := "(I)I" } : Jvm.MethodName)) ∈ lw_all := lw_g (lw_at lw_m8 202 rfl) rfl
theorem q1978 : (Jvm.Cond.selects "PlugHallModel" ({ cls := "PlugHallModel", name := "unseen", desc := "(I)I" } : Jvm.MethodName) ({ cls := "PlugHallModel", name := "unseen", desc := "(I)I" } : Jvm.MethodName)) ∈ lw_all := lw_g (lw_at lw_m8 203 rfl) rfl
theorem q1979 : (Jvm.Cond.code ({ cls := "PlugHallModel", name := "unseen", desc := "(I)I" } : Jvm.MethodName) prog_14_method_63_code (3 : Nat) (Option.some Jvm.ClassFile.FieldType.int)) ∈ lw_all := lw_g (lw_at lw_m8 204 rfl) rfl
theorem q1980 : (Jvm.Cond.methodLink "PlugHallLaw" (157 : Nat) ({ cls := "PlugHallModel", name := "unseenAt", desc := "(I)I" } : Jvm.MethodName)) ∈ lw_all := lw_g (lw_at lw_m8 205 rfl) rfl
theorem q1981 : (Jvm.Cond.instanceMethod ({ cls := "PlugHallModel", name := "unseenAt", desc := "(I)I" } : Jvm.MethodName)) ∈ lw_all := lw_g (lw_at lw_m8 206 rfl) rfl
theorem q1982 : (Jvm.Cond.selects "PlugHallModel" ({ cls := "PlugHallModel", name := "unseenAt", desc := "(I)I" } : Jvm.MethodName) ({ cls := "PlugHallModel", name := "unseenAt", desc := "(I)I" } : Jvm.MethodName)) ∈ lw_all := lw_g (lw_at lw_m8 207 rfl) rfl
theorem q1983 : (Jvm.Cond.code ({ cls := "PlugHallModel", name := "unseenAt", desc := "(I)I" } : Jvm.MethodName) prog_14_method_64_code (2 : Nat) (Option.some Jvm.ClassFile.FieldType.int)) ∈ lw_all := lw_g (lw_at lw_m8 208 rfl) rfl
theorem q1984 : (Jvm.Cond.methodLink "PlugHallLaw" (161 : Nat) ({ cls := "PlugHallModel", name := "moves", desc := "(I)I" } : Jvm.MethodName)) ∈ lw_all := lw_g (lw_at lw_m8 209 rfl) rfl
theorem q1985 : (Jvm.Cond.instanceMethod ({ cls := "PlugHallModel", name := "moves", desc := "(I)I" } : Jvm.MethodName)) ∈ lw_all := lw_g (lw_at lw_m8 210 rfl) rfl
theorem q1986 : (Jvm.Cond.selects "PlugHallModel" ({ cls := "PlugHallModel", name := "moves", desc := "(I)I" } : Jvm.MethodName) ({ cls := "PlugHallModel", name := "moves", desc := "(I)I" } : Jvm.MethodName)) ∈ lw_all := lw_g (lw_at lw_m8 211 rfl) rfl
theorem q1987 : (Jvm.Cond.code ({ cls := "PlugHallModel", name := "moves", desc := "(I)I" } : Jvm.MethodName) prog_14_method_66_code (9 : Nat) (Option.some Jvm.ClassFile.FieldType.int)) ∈ lw_all := lw_g (lw_at lw_m8 212 rfl) rfl
theorem q1988 : (Jvm.Cond.methodLink "PlugHallModel" (450 : Nat) ({ cls := "PlugHallModel", name := "beginOf", desc := "(I)I" } : Jvm.MethodName)) ∈ lw_all := lw_g (lw_at lw_m8 213 rfl) rfl
theorem q1989 : (Jvm.Cond.static ({ cls := "PlugHallModel", name := "beginOf", desc := "(I)I" } : Jvm.MethodName)) ∈ lw_all := lw_g (lw_at lw_m8 214 rfl) rfl
theorem q1990 : (Jvm.Cond.code ({ cls := "PlugHallModel", name := "beginOf", desc := "(I)I" } : Jvm.MethodName) prog_14_method_65_code (1 : Nat) (Option.some Jvm.ClassFile.FieldType.int)) ∈ lw_all := lw_g (lw_at lw_m8 215 rfl) rfl
theorem q1991 : (Jvm.Cond.methodLink "PlugHallModel" (453 : Nat) ({ cls := "PlugHallModel", name := "put", desc := "(III)V" } : Jvm.MethodName)) ∈ lw_all := lw_g (lw_at lw_m8 216 rfl) rfl
theorem q1992 : (Jvm.Cond.privateMethod ({ cls := "PlugHallModel", name := "put", desc := "(III)V" } : Jvm.MethodName)) ∈ lw_tbl := lw_at lw_m8 217 rfl
theorem q1993 : (Jvm.Cond.instanceMethod ({ cls := "PlugHallModel", name := "put", desc := "(III)V" } : Jvm.MethodName)) ∈ lw_all := lw_g (lw_at lw_m8 218 rfl) rfl
theorem q1994 : (Jvm.Cond.code ({ cls := "PlugHallModel", name := "put", desc := "(III)V" } : Jvm.MethodName) prog_14_method_67_code (4 : Nat) (Option.none : Option Jvm.ClassFile.FieldType)) ∈ lw_all := lw_g (lw_at lw_m8 219 rfl) rfl
theorem q1995 : (Jvm.Cond.methodLink "PlugHallLaw" (165 : Nat) ({ cls := "PlugHallModel", name := "move", desc := "(II)I" } : Jvm.MethodName)) ∈ lw_all := lw_g (lw_at lw_m8 220 rfl) rfl
theorem q1996 : (Jvm.Cond.instanceMethod ({ cls := "PlugHallModel", name := "move", desc := "(II)I" } : Jvm.MethodName)) ∈ lw_all := lw_g (lw_at lw_m8 221 rfl) rfl
theorem q1997 : (Jvm.Cond.selects "PlugHallModel" ({ cls := "PlugHallModel", name := "move", desc := "(II)I" } : Jvm.MethodName) ({ cls := "PlugHallModel", name := "move", desc := "(II)I" } : Jvm.MethodName)) ∈ lw_all := lw_g (lw_at lw_m8 222 rfl) rfl
theorem q1998 : (Jvm.Cond.code ({ cls := "PlugHallModel", name := "move", desc := "(II)I" } : Jvm.MethodName) prog_14_method_68_code (3 : Nat) (Option.some Jvm.ClassFile.FieldType.int)) ∈ lw_all := lw_g (lw_at lw_m8 223 rfl) rfl
theorem q1999 : (Jvm.Cond.methodLink "PlugHallLaw" (118 : Nat) ({ cls := "PlugHallModel", name := "job", desc := "()I" } : Jvm.MethodName)) ∈ lw_all := lw_g (lw_at lw_m8 224 rfl) rfl
theorem q2000 : (Jvm.Cond.instanceMethod ({ cls := "PlugHallModel", name := "job", desc := "()I" } : Jvm.MethodName)) ∈ lw_all := lw_g (lw_at lw_m8 225 rfl) rfl
theorem q2001 : (Jvm.Cond.selects "PlugHallModel" ({ cls := "PlugHallModel", name := "job", desc := "()I" } : Jvm.MethodName) ({ cls := "PlugHallModel", name := "job", desc := "()I" } : Jvm.MethodName)) ∈ lw_all := lw_g (lw_at lw_m8 226 rfl) rfl
theorem q2002 : (Jvm.Cond.code ({ cls := "PlugHallModel", name := "job", desc := "()I" } : Jvm.MethodName) prog_14_method_76_code (2 : Nat) (Option.some Jvm.ClassFile.FieldType.int)) ∈ lw_all := lw_g (lw_at lw_m8 227 rfl) rfl
theorem q2003 : (Jvm.Cond.methodLink "PlugHallModel" (488 : Nat) ({ cls := "PlugHallModel", name := "readJob", desc := "()Z" } : Jvm.MethodName)) ∈ lw_all := lw_g (lw_at lw_m8 228 rfl) rfl
theorem q2004 : (Jvm.Cond.privateMethod ({ cls := "PlugHallModel", name := "readJob", desc := "()Z" } : Jvm.MethodName)) ∈ lw_tbl := lw_at lw_m8 229 rfl
theorem q2005 : (Jvm.Cond.instanceMethod ({ cls := "PlugHallModel", name := "readJob", desc := "()Z" } : Jvm.MethodName)) ∈ lw_all := lw_g (lw_at lw_m8 230 rfl) rfl
theorem q2006 : (Jvm.Cond.code ({ cls := "PlugHallModel", name := "readJob", desc := "()Z" } : Jvm.MethodName) prog_14_method_72_code (3 : Nat) (Option.some Jvm.ClassFile.FieldType.boolean)) ∈ lw_all := lw_g (lw_at lw_m8 231 rfl) rfl
theorem q2007 : (Jvm.Cond.constantLong "PlugHallModel" (464 : Nat) (7566701 : Int64)) ∈ lw_all := lw_g (lw_at lw_m8 232 rfl) rfl
theorem q2008 : (Jvm.Cond.methodLink "PlugHallModel" (470 : Nat) ({ cls := "PlugHallModel", name := "isWord", desc := "(J)Z" } : Jvm.MethodName)) ∈ lw_all := lw_g (lw_at lw_m8 233 rfl) rfl
theorem q2009 : (Jvm.Cond.privateMethod ({ cls := "PlugHallModel", name := "isWord", desc := "(J)Z" } : Jvm.MethodName)) ∈ lw_tbl := lw_at lw_m8 234 rfl
theorem q2010 : (Jvm.Cond.instanceMethod ({ cls := "PlugHallModel", name := "isWord", desc := "(J)Z" } : Jvm.MethodName)) ∈ lw_all := lw_g (lw_at lw_m8 235 rfl) rfl
theorem q2011 : (Jvm.Cond.code ({ cls := "PlugHallModel", name := "isWord", desc := "(J)Z" } : Jvm.MethodName) prog_14_method_69_code (3 : Nat) (Option.some Jvm.ClassFile.FieldType.boolean)) ∈ lw_all := lw_g (lw_at lw_m8 236 rfl) rfl
theorem q2012 : (Jvm.Cond.constantLong "PlugHallModel" (466 : Nat) (427071729268 : Int64)) ∈ lw_all := lw_g (lw_at lw_m8 237 rfl) rfl
theorem q2013 : (Jvm.Cond.constantLong "PlugHallModel" (460 : Nat) (439854918756 : Int64)) ∈ lw_all := lw_g (lw_at lw_m8 238 rfl) rfl
theorem q2014 : (Jvm.Cond.constantLong "PlugHallModel" (462 : Nat) (422826041707 : Int64)) ∈ lw_all := lw_g (lw_at lw_m8 239 rfl) rfl
theorem q2015 : (Jvm.Cond.methodLink "PlugHallModel" (473 : Nat) ({ cls := "PlugHallModel", name := "want", desc := "()Z" } : Jvm.MethodName)) ∈ lw_all := lw_g (lw_at lw_m9 0 rfl) rfl
theorem q2016 : (Jvm.Cond.privateMethod ({ cls := "PlugHallModel", name := "want", desc := "()Z" } : Jvm.MethodName)) ∈ lw_tbl := lw_at lw_m9 1 rfl
theorem q2017 : (Jvm.Cond.instanceMethod ({ cls := "PlugHallModel", name := "want", desc := "()Z" } : Jvm.MethodName)) ∈ lw_all := lw_g (lw_at lw_m9 2 rfl) rfl
theorem q2018 : (Jvm.Cond.code ({ cls := "PlugHallModel", name := "want", desc := "()Z" } : Jvm.MethodName) prog_14_method_75_code (3 : Nat) (Option.some Jvm.ClassFile.FieldType.boolean)) ∈ lw_all := lw_g (lw_at lw_m9 3 rfl) rfl
theorem q2019 : (Jvm.Cond.methodLink "PlugHallModel" (482 : Nat) ({ cls := "PlugHallModel", name := "isName", desc := "()Z" } : Jvm.MethodName)) ∈ lw_all := lw_g (lw_at lw_m9 4 rfl) rfl
theorem q2020 : (Jvm.Cond.privateMethod ({ cls := "PlugHallModel", name := "isName", desc := "()Z" } : Jvm.MethodName)) ∈ lw_tbl := lw_at lw_m9 5 rfl
theorem q2021 : (Jvm.Cond.instanceMethod ({ cls := "PlugHallModel", name := "isName", desc := "()Z" } : Jvm.MethodName)) ∈ lw_all := lw_g (lw_at lw_m9 6 rfl) rfl
theorem q2022 : (Jvm.Cond.code ({ cls := "PlugHallModel", name := "isName", desc := "()Z" } : Jvm.MethodName) prog_14_method_70_code (1 : Nat) (Option.some Jvm.ClassFile.FieldType.boolean)) ∈ lw_all := lw_g (lw_at lw_m9 7 rfl) rfl
theorem q2023 : (Jvm.Cond.constantLong "PlugHallModel" (468 : Nat) (1870030194 : Int64)) ∈ lw_all := lw_g (lw_at lw_m9 8 rfl) rfl
theorem q2024 : (Jvm.Cond.methodLink "PlugHallModel" (485 : Nat) ({ cls := "PlugHallModel", name := "named", desc := "(J)I" } : Jvm.MethodName)) ∈ lw_all := lw_g (lw_at lw_m9 9 rfl) rfl
theorem q2025 : (Jvm.Cond.privateMethod ({ cls := "PlugHallModel", name := "named", desc := "(J)I" } : Jvm.MethodName)) ∈ lw_tbl := lw_at lw_m9 10 rfl
theorem q2026 : (Jvm.Cond.instanceMethod ({ cls := "PlugHallModel", name := "named", desc := "(J)I" } : Jvm.MethodName)) ∈ lw_all := lw_g (lw_at lw_m9 11 rfl) rfl
theorem q2027 : (Jvm.Cond.code ({ cls := "PlugHallModel", name := "named", desc := "(J)I" } : Jvm.MethodName) prog_14_method_71_code (4 : Nat) (Option.some Jvm.ClassFile.FieldType.int)) ∈ lw_all := lw_g (lw_at lw_m9 12 rfl) rfl
theorem q2028 : (Jvm.Cond.methodLink "PlugHallModel" (476 : Nat) ({ cls := "PlugHallModel", name := "field", desc := "()Z" } : Jvm.MethodName)) ∈ lw_all := lw_g (lw_at lw_m9 13 rfl) rfl
theorem q2029 : (Jvm.Cond.privateMethod ({ cls := "PlugHallModel", name := "field", desc := "()Z" } : Jvm.MethodName)) ∈ lw_tbl := lw_at lw_m9 14 rfl
theorem q2030 : (Jvm.Cond.instanceMethod ({ cls := "PlugHallModel", name := "field", desc := "()Z" } : Jvm.MethodName)) ∈ lw_all := lw_g (lw_at lw_m9 15 rfl) rfl
theorem q2031 : (Jvm.Cond.code ({ cls := "PlugHallModel", name := "field", desc := "()Z" } : Jvm.MethodName) prog_14_method_73_code (4 : Nat) (Option.some Jvm.ClassFile.FieldType.boolean)) ∈ lw_all := lw_g (lw_at lw_m9 16 rfl) rfl
theorem q2032 : (Jvm.Cond.methodLink "PlugHallModel" (479 : Nat) ({ cls := "PlugHallModel", name := "breaks", desc := "()Z" } : Jvm.MethodName)) ∈ lw_all := lw_g (lw_at lw_m9 17 rfl) rfl
theorem q2033 : (Jvm.Cond.privateMethod ({ cls := "PlugHallModel", name := "breaks", desc := "()Z" } : Jvm.MethodName)) ∈ lw_tbl := lw_at lw_m9 18 rfl
theorem q2034 : (Jvm.Cond.instanceMethod ({ cls := "PlugHallModel", name := "breaks", desc := "()Z" } : Jvm.MethodName)) ∈ lw_all := lw_g (lw_at lw_m9 19 rfl) rfl
theorem q2035 : (Jvm.Cond.code ({ cls := "PlugHallModel", name := "breaks", desc := "()Z" } : Jvm.MethodName) prog_14_method_74_code (3 : Nat) (Option.some Jvm.ClassFile.FieldType.boolean)) ∈ lw_all := lw_g (lw_at lw_m9 20 rfl) rfl
theorem q2036 : (Jvm.Cond.methodLink "PlugHallLaw" (122 : Nat) ({ cls := "PlugHallModel", name := "runs", desc := "()I" } : Jvm.MethodName)) ∈ lw_all := lw_g (lw_at lw_m9 21 rfl) rfl
theorem q2037 : (Jvm.Cond.instanceMethod ({ cls := "PlugHallModel", name := "runs", desc := "()I" } : Jvm.MethodName)) ∈ lw_all := lw_g (lw_at lw_m9 22 rfl) rfl
theorem q2038 : (Jvm.Cond.selects "PlugHallModel" ({ cls := "PlugHallModel", name := "runs", desc := "()I" } : Jvm.MethodName) ({ cls := "PlugHallModel", name := "runs", desc := "()I" } : Jvm.MethodName)) ∈ lw_all := lw_g (lw_at lw_m9 23 rfl) rfl
theorem q2039 : (Jvm.Cond.code ({ cls := "PlugHallModel", name := "runs", desc := "()I" } : Jvm.MethodName) prog_14_method_82_code (1 : Nat) (Option.some Jvm.ClassFile.FieldType.int)) ∈ lw_all := lw_g (lw_at lw_m9 24 rfl) rfl
theorem q2040 : (Jvm.Cond.methodLink "PlugHallModel" (512 : Nat) ({ cls := "PlugHallModel", name := "plan", desc := "()I" } : Jvm.MethodName)) ∈ lw_all := lw_g (lw_at lw_m9 25 rfl) rfl
theorem q2041 : (Jvm.Cond.privateMethod ({ cls := "PlugHallModel", name := "plan", desc := "()I" } : Jvm.MethodName)) ∈ lw_tbl := lw_at lw_m9 26 rfl
theorem q2042 : (Jvm.Cond.instanceMethod ({ cls := "PlugHallModel", name := "plan", desc := "()I" } : Jvm.MethodName)) ∈ lw_all := lw_g (lw_at lw_m9 27 rfl) rfl
theorem q2043 : (Jvm.Cond.code ({ cls := "PlugHallModel", name := "plan", desc := "()I" } : Jvm.MethodName) prog_14_method_81_code (5 : Nat) (Option.some Jvm.ClassFile.FieldType.int)) ∈ lw_all := lw_g (lw_at lw_m9 28 rfl) rfl
theorem q2044 : (Jvm.Cond.methodLink "PlugHallModel" (509 : Nat) ({ cls := "PlugHallModel", name := "make0", desc := "(I)Z" } : Jvm.MethodName)) ∈ lw_all := lw_g (lw_at lw_m9 29 rfl) rfl
theorem q2045 : (Jvm.Cond.privateMethod ({ cls := "PlugHallModel", name := "make0", desc := "(I)Z" } : Jvm.MethodName)) ∈ lw_tbl := lw_at lw_m9 30 rfl
theorem q2046 : (Jvm.Cond.instanceMethod ({ cls := "PlugHallModel", name := "make0", desc := "(I)Z" } : Jvm.MethodName)) ∈ lw_all := lw_g (lw_at lw_m9 31 rfl) rfl
theorem q2047 : (Jvm.Cond.code ({ cls := "PlugHallModel", name := "make0", desc := "(I)Z" } : Jvm.MethodName) prog_14_method_79_code (9 : Nat) (Option.some Jvm.ClassFile.FieldType.boolean)) ∈ lw_all := lw_g (lw_at lw_m9 32 rfl) rfl
theorem q2048 : (Jvm.Cond.methodLink "PlugHallModel" (500 : Nat) ({ cls := "PlugHallModel", name := "lay", desc := "(II)V" } : Jvm.MethodName)) ∈ lw_all := lw_g (lw_at lw_m9 33 rfl) rfl
theorem q2049 : (Jvm.Cond.privateMethod ({ cls := "PlugHallModel", name := "lay", desc := "(II)V" } : Jvm.MethodName)) ∈ lw_tbl := lw_at lw_m9 34 rfl
theorem q2050 : (Jvm.Cond.instanceMethod ({ cls := "PlugHallModel", name := "lay", desc := "(II)V" } : Jvm.MethodName)) ∈ lw_all := lw_g (lw_at lw_m9 35 rfl) rfl
theorem q2051 : (Jvm.Cond.code ({ cls := "PlugHallModel", name := "lay", desc := "(II)V" } : Jvm.MethodName) prog_14_method_77_code (3 : Nat) (Option.none : Option Jvm.ClassFile.FieldType)) ∈ lw_all := lw_g (lw_at lw_m9 36 rfl) rfl
theorem q2052 : (Jvm.Cond.methodLink "PlugHallModel" (503 : Nat) ({ cls := "PlugHallModel", name := "addends", desc := "(II)V" } : Jvm.MethodName)) ∈ lw_all := lw_g (lw_at lw_m9 37 rfl) rfl
theorem q2053 : (Jvm.Cond.privateMethod ({ cls := "PlugHallModel", name := "addends", desc := "(II)V" } : Jvm.MethodName)) ∈ lw_tbl := lw_at lw_m9 38 rfl
theorem q2054 : (Jvm.Cond.instanceMethod ({ cls := "PlugHallModel", name := "addends", desc := "(II)V" } : Jvm.MethodName)) ∈ lw_all := lw_g (lw_at lw_m9 39 rfl) rfl
theorem q2055 : (Jvm.Cond.code ({ cls := "PlugHallModel", name := "addends", desc := "(II)V" } : Jvm.MethodName) prog_14_method_80_code (5 : Nat) (Option.none : Option Jvm.ClassFile.FieldType)) ∈ lw_all := lw_g (lw_at lw_m9 40 rfl) rfl
theorem q2056 : (Jvm.Cond.methodLink "PlugHallModel" (506 : Nat) ({ cls := "PlugHallModel", name := "point", desc := "(I)I" } : Jvm.MethodName)) ∈ lw_all := lw_g (lw_at lw_m9 41 rfl) rfl
theorem q2057 : (Jvm.Cond.privateMethod ({ cls := "PlugHallModel", name := "point", desc := "(I)I" } : Jvm.MethodName)) ∈ lw_tbl := lw_at lw_m9 42 rfl
theorem q2058 : (Jvm.Cond.instanceMethod ({ cls := "PlugHallModel", name := "point", desc := "(I)I" } : Jvm.MethodName)) ∈ lw_all := lw_g (lw_at lw_m9 43 rfl) rfl
theorem q2059 : (Jvm.Cond.code ({ cls := "PlugHallModel", name := "point", desc := "(I)I" } : Jvm.MethodName) prog_14_method_78_code (3 : Nat) (Option.some Jvm.ClassFile.FieldType.int)) ∈ lw_all := lw_g (lw_at lw_m9 44 rfl) rfl
theorem q2060 : (Jvm.Cond.methodLink "PlugHallLaw" (126 : Nat) ({ cls := "PlugHallModel", name := "wants", desc := "(I)I" } : Jvm.MethodName)) ∈ lw_all := lw_g (lw_at lw_m9 45 rfl) rfl
theorem q2061 : (Jvm.Cond.instanceMethod ({ cls := "PlugHallModel", name := "wants", desc := "(I)I" } : Jvm.MethodName)) ∈ lw_all := lw_g (lw_at lw_m9 46 rfl) rfl
theorem q2062 : (Jvm.Cond.selects "PlugHallModel" ({ cls := "PlugHallModel", name := "wants", desc := "(I)I" } : Jvm.MethodName) ({ cls := "PlugHallModel", name := "wants", desc := "(I)I" } : Jvm.MethodName)) ∈ lw_all := lw_g (lw_at lw_m9 47 rfl) rfl
theorem q2063 : (Jvm.Cond.code ({ cls := "PlugHallModel", name := "wants", desc := "(I)I" } : Jvm.MethodName) prog_14_method_84_code (2 : Nat) (Option.some Jvm.ClassFile.FieldType.int)) ∈ lw_all := lw_g (lw_at lw_m9 48 rfl) rfl
theorem q2064 : (Jvm.Cond.methodLink "PlugHallModel" (515 : Nat) ({ cls := "PlugHallModel", name := "part", desc := "(I)I" } : Jvm.MethodName)) ∈ lw_all := lw_g (lw_at lw_m9 49 rfl) rfl
theorem q2065 : (Jvm.Cond.privateMethod ({ cls := "PlugHallModel", name := "part", desc := "(I)I" } : Jvm.MethodName)) ∈ lw_tbl := lw_at lw_m9 50 rfl
theorem q2066 : (Jvm.Cond.instanceMethod ({ cls := "PlugHallModel", name := "part", desc := "(I)I" } : Jvm.MethodName)) ∈ lw_all := lw_g (lw_at lw_m9 51 rfl) rfl
theorem q2067 : (Jvm.Cond.code ({ cls := "PlugHallModel", name := "part", desc := "(I)I" } : Jvm.MethodName) prog_14_method_83_code (5 : Nat) (Option.some Jvm.ClassFile.FieldType.int)) ∈ lw_all := lw_g (lw_at lw_m9 52 rfl) rfl
theorem q2068 : (Jvm.Cond.methodLink "PlugHallLaw" (130 : Nat) ({ cls := "PlugHallModel", name := "make", desc := "(I)I" } : Jvm.MethodName)) ∈ lw_all := lw_g (lw_at lw_m9 53 rfl) rfl
theorem q2069 : (Jvm.Cond.instanceMethod ({ cls := "PlugHallModel", name := "make", desc := "(I)I" } : Jvm.MethodName)) ∈ lw_all := lw_g (lw_at lw_m9 54 rfl) rfl
theorem q2070 : (Jvm.Cond.selects "PlugHallModel" ({ cls := "PlugHallModel", name := "make", desc := "(I)I" } : Jvm.MethodName) ({ cls := "PlugHallModel", name := "make", desc := "(I)I" } : Jvm.MethodName)) ∈ lw_all := lw_g (lw_at lw_m9 55 rfl) rfl
theorem q2071 : (Jvm.Cond.code ({ cls := "PlugHallModel", name := "make", desc := "(I)I" } : Jvm.MethodName) prog_14_method_85_code (4 : Nat) (Option.some Jvm.ClassFile.FieldType.int)) ∈ lw_all := lw_g (lw_at lw_m9 56 rfl) rfl
theorem q2072 : (Jvm.Cond.methodLink "PlugHallLaw" (134 : Nat) ({ cls := "PlugHallModel", name := "wanted", desc := "(II)I" } : Jvm.MethodName)) ∈ lw_all := lw_g (lw_at lw_m9 57 rfl) rfl
theorem q2073 : (Jvm.Cond.instanceMethod ({ cls := "PlugHallModel", name := "wanted", desc := "(II)I" } : Jvm.MethodName)) ∈ lw_all := lw_g (lw_at lw_m9 58 rfl) rfl
theorem q2074 : (Jvm.Cond.selects "PlugHallModel" ({ cls := "PlugHallModel", name := "wanted", desc := "(II)I" } : Jvm.MethodName) ({ cls := "PlugHallModel", name := "wanted", desc := "(II)I" } : Jvm.MethodName)) ∈ lw_all := lw_g (lw_at lw_m9 59 rfl) rfl
theorem q2075 : (Jvm.Cond.code ({ cls := "PlugHallModel", name := "wanted", desc := "(II)I" } : Jvm.MethodName) prog_14_method_89_code (5 : Nat) (Option.some Jvm.ClassFile.FieldType.int)) ∈ lw_all := lw_g (lw_at lw_m9 60 rfl) rfl
theorem q2076 : (Jvm.Cond.methodLink "PlugHallModel" (527 : Nat) ({ cls := "PlugHallModel", name := "dues", desc := "(II)I" } : Jvm.MethodName)) ∈ lw_all := lw_g (lw_at lw_m9 61 rfl) rfl
theorem q2077 : (Jvm.Cond.privateMethod ({ cls := "PlugHallModel", name := "dues", desc := "(II)I" } : Jvm.MethodName)) ∈ lw_tbl := lw_at lw_m9 62 rfl
theorem q2078 : (Jvm.Cond.instanceMethod ({ cls := "PlugHallModel", name := "dues", desc := "(II)I" } : Jvm.MethodName)) ∈ lw_all := lw_g (lw_at lw_m9 63 rfl) rfl
theorem q2079 : (Jvm.Cond.code ({ cls := "PlugHallModel", name := "dues", desc := "(II)I" } : Jvm.MethodName) prog_14_method_86_code (7 : Nat) (Option.some Jvm.ClassFile.FieldType.int)) ∈ lw_all := lw_g (lw_at lw_m9 64 rfl) rfl
theorem q2080 : (Jvm.Cond.methodLink "PlugHallModel" (521 : Nat) ({ cls := "PlugHallModel", name := "added", desc := "(II)I" } : Jvm.MethodName)) ∈ lw_all := lw_g (lw_at lw_m9 65 rfl) rfl
theorem q2081 : (Jvm.Cond.privateMethod ({ cls := "PlugHallModel", name := "added", desc := "(II)I" } : Jvm.MethodName)) ∈ lw_tbl := lw_at lw_m9 66 rfl
theorem q2082 : (Jvm.Cond.instanceMethod ({ cls := "PlugHallModel", name := "added", desc := "(II)I" } : Jvm.MethodName)) ∈ lw_all := lw_g (lw_at lw_m9 67 rfl) rfl
theorem q2083 : (Jvm.Cond.code ({ cls := "PlugHallModel", name := "added", desc := "(II)I" } : Jvm.MethodName) prog_14_method_87_code (6 : Nat) (Option.some Jvm.ClassFile.FieldType.int)) ∈ lw_all := lw_g (lw_at lw_m9 68 rfl) rfl
theorem q2084 : (Jvm.Cond.methodLink "PlugHallModel" (524 : Nat) ({ cls := "PlugHallModel", name := "dueLine", desc := "(II)V" } : Jvm.MethodName)) ∈ lw_all := lw_g (lw_at lw_m9 69 rfl) rfl
theorem q2085 : (Jvm.Cond.privateMethod ({ cls := "PlugHallModel", name := "dueLine", desc := "(II)V" } : Jvm.MethodName)) ∈ lw_tbl := lw_at lw_m9 70 rfl
theorem q2086 : (Jvm.Cond.instanceMethod ({ cls := "PlugHallModel", name := "dueLine", desc := "(II)V" } : Jvm.MethodName)) ∈ lw_all := lw_g (lw_at lw_m9 71 rfl) rfl
theorem q2087 : (Jvm.Cond.code ({ cls := "PlugHallModel", name := "dueLine", desc := "(II)V" } : Jvm.MethodName) prog_14_method_88_code (9 : Nat) (Option.none : Option Jvm.ClassFile.FieldType)) ∈ lw_all := lw_g (lw_at lw_m9 72 rfl) rfl
theorem q2088 : (Jvm.Cond.methodLink "PlugHallLaw" (137 : Nat) ({ cls := "PlugHallModel", name := "wantedAt", desc := "(II)I" } : Jvm.MethodName)) ∈ lw_all := lw_g (lw_at lw_m9 73 rfl) rfl
theorem q2089 : (Jvm.Cond.instanceMethod ({ cls := "PlugHallModel", name := "wantedAt", desc := "(II)I" } : Jvm.MethodName)) ∈ lw_all := lw_g (lw_at lw_m9 74 rfl) rfl
theorem q2090 : (Jvm.Cond.selects "PlugHallModel" ({ cls := "PlugHallModel", name := "wantedAt", desc := "(II)I" } : Jvm.MethodName) ({ cls := "PlugHallModel", name := "wantedAt", desc := "(II)I" } : Jvm.MethodName)) ∈ lw_all := lw_g (lw_at lw_m9 75 rfl) rfl
theorem q2091 : (Jvm.Cond.code ({ cls := "PlugHallModel", name := "wantedAt", desc := "(II)I" } : Jvm.MethodName) prog_14_method_90_code (3 : Nat) (Option.some Jvm.ClassFile.FieldType.int)) ∈ lw_all := lw_g (lw_at lw_m9 76 rfl) rfl
theorem q2092 : (Jvm.Cond.methodLink "PlugHallLaw" (141 : Nat) ({ cls := "PlugHallModel", name := "same", desc := "(II)I" } : Jvm.MethodName)) ∈ lw_all := lw_g (lw_at lw_m9 77 rfl) rfl
theorem q2093 : (Jvm.Cond.instanceMethod ({ cls := "PlugHallModel", name := "same", desc := "(II)I" } : Jvm.MethodName)) ∈ lw_all := lw_g (lw_at lw_m9 78 rfl) rfl
theorem q2094 : (Jvm.Cond.selects "PlugHallModel" ({ cls := "PlugHallModel", name := "same", desc := "(II)I" } : Jvm.MethodName) ({ cls := "PlugHallModel", name := "same", desc := "(II)I" } : Jvm.MethodName)) ∈ lw_all := lw_g (lw_at lw_m9 79 rfl) rfl
theorem q2095 : (Jvm.Cond.code ({ cls := "PlugHallModel", name := "same", desc := "(II)I" } : Jvm.MethodName) prog_14_method_91_code (6 : Nat) (Option.some Jvm.ClassFile.FieldType.int)) ∈ lw_all := lw_g (lw_at lw_m9 80 rfl) rfl
theorem q2096 : (Jvm.Cond.methodLink "PlugHallLaw" (169 : Nat) ({ cls := "PlugHallModel", name := "keep", desc := "(I)Z" } : Jvm.MethodName)) ∈ lw_all := lw_g (lw_at lw_m9 81 rfl) rfl
theorem q2097 : (Jvm.Cond.instanceMethod ({ cls := "PlugHallModel", name := "keep", desc := "(I)Z" } : Jvm.MethodName)) ∈ lw_all := lw_g (lw_at lw_m9 82 rfl) rfl
theorem q2098 : (Jvm.Cond.selects "PlugHallModel" ({ cls := "PlugHallModel", name := "keep", desc := "(I)Z" } : Jvm.MethodName) ({ cls := "PlugHallModel", name := "keep", desc := "(I)Z" } : Jvm.MethodName)) ∈ lw_all := lw_g (lw_at lw_m9 83 rfl) rfl
theorem q2099 : (Jvm.Cond.code ({ cls := "PlugHallModel", name := "keep", desc := "(I)Z" } : Jvm.MethodName) prog_14_method_92_code (2 : Nat) (Option.some Jvm.ClassFile.FieldType.boolean)) ∈ lw_all := lw_g (lw_at lw_m9 84 rfl) rfl
theorem q2100 : (Jvm.Cond.methodLink "PlugHallLaw" (173 : Nat) ({ cls := "PlugHallModel", name := "use", desc := "(I)I" } : Jvm.MethodName)) ∈ lw_all := lw_g (lw_at lw_m9 85 rfl) rfl
theorem q2101 : (Jvm.Cond.instanceMethod ({ cls := "PlugHallModel", name := "use", desc := "(I)I" } : Jvm.MethodName)) ∈ lw_all := lw_g (lw_at lw_m9 86 rfl) rfl
theorem q2102 : (Jvm.Cond.selects "PlugHallModel" ({ cls := "PlugHallModel", name := "use", desc := "(I)I" } : Jvm.MethodName) ({ cls := "PlugHallModel", name := "use", desc := "(I)I" } : Jvm.MethodName)) ∈ lw_all := lw_g (lw_at lw_m9 87 rfl) rfl
theorem q2103 : (Jvm.Cond.code ({ cls := "PlugHallModel", name := "use", desc := "(I)I" } : Jvm.MethodName) prog_14_method_94_code (2 : Nat) (Option.some Jvm.ClassFile.FieldType.int)) ∈ lw_all := lw_g (lw_at lw_m9 88 rfl) rfl
theorem q2104 : (Jvm.Cond.methodLink "PlugHallModel" (536 : Nat) ({ cls := "PlugHallModel", name := "isThere", desc := "(I)Z" } : Jvm.MethodName)) ∈ lw_all := lw_g (lw_at lw_m9 89 rfl) rfl
theorem q2105 : (Jvm.Cond.privateMethod ({ cls := "PlugHallModel", name := "isThere", desc := "(I)Z" } : Jvm.MethodName)) ∈ lw_tbl := lw_at lw_m9 90 rfl
theorem q2106 : (Jvm.Cond.instanceMethod ({ cls := "PlugHallModel", name := "isThere", desc := "(I)Z" } : Jvm.MethodName)) ∈ lw_all := lw_g (lw_at lw_m9 91 rfl) rfl
theorem q2107 : (Jvm.Cond.code ({ cls := "PlugHallModel", name := "isThere", desc := "(I)Z" } : Jvm.MethodName) prog_14_method_93_code (2 : Nat) (Option.some Jvm.ClassFile.FieldType.boolean)) ∈ lw_all := lw_g (lw_at lw_m9 92 rfl) rfl
theorem q2108 : (Jvm.Cond.methodLink "PlugHallLaw" (177 : Nat) ({ cls := "PlugHallModel", name := "apart", desc := "(II)I" } : Jvm.MethodName)) ∈ lw_all := lw_g (lw_at lw_m9 93 rfl) rfl
theorem q2109 : (Jvm.Cond.instanceMethod ({ cls := "PlugHallModel", name := "apart", desc := "(II)I" } : Jvm.MethodName)) ∈ lw_all := lw_g (lw_at lw_m9 94 rfl) rfl
theorem q2110 : (Jvm.Cond.selects "PlugHallModel" ({ cls := "PlugHallModel", name := "apart", desc := "(II)I" } : Jvm.MethodName) ({ cls := "PlugHallModel", name := "apart", desc := "(II)I" } : Jvm.MethodName)) ∈ lw_all := lw_g (lw_at lw_m9 95 rfl) rfl
theorem q2111 : (Jvm.Cond.code ({ cls := "PlugHallModel", name := "apart", desc := "(II)I" } : Jvm.MethodName) prog_14_method_97_code (3 : Nat) (Option.some Jvm.ClassFile.FieldType.int)) ∈ lw_all := lw_g (lw_at lw_m9 96 rfl) rfl
theorem q2112 : (Jvm.Cond.methodLink "PlugHallModel" (542 : Nat) ({ cls := "PlugHallModel", name := "differ", desc := "(II)I" } : Jvm.MethodName)) ∈ lw_all := lw_g (lw_at lw_m9 97 rfl) rfl
theorem q2113 : (Jvm.Cond.privateMethod ({ cls := "PlugHallModel", name := "differ", desc := "(II)I" } : Jvm.MethodName)) ∈ lw_tbl := lw_at lw_m9 98 rfl
theorem q2114 : (Jvm.Cond.instanceMethod ({ cls := "PlugHallModel", name := "differ", desc := "(II)I" } : Jvm.MethodName)) ∈ lw_all := lw_g (lw_at lw_m9 99 rfl) rfl
theorem q2115 : (Jvm.Cond.code ({ cls := "PlugHallModel", name := "differ", desc := "(II)I" } : Jvm.MethodName) prog_14_method_95_code (7 : Nat) (Option.some Jvm.ClassFile.FieldType.int)) ∈ lw_all := lw_g (lw_at lw_m9 100 rfl) rfl
theorem q2116 : (Jvm.Cond.methodLink "PlugHallModel" (539 : Nat) ({ cls := "PlugHallModel", name := "isOne", desc := "(II)Z" } : Jvm.MethodName)) ∈ lw_all := lw_g (lw_at lw_m9 101 rfl) rfl
theorem q2117 : (Jvm.Cond.privateMethod ({ cls := "PlugHallModel", name := "isOne", desc := "(II)Z" } : Jvm.MethodName)) ∈ lw_tbl := lw_at lw_m9 102 rfl
theorem q2118 : (Jvm.Cond.instanceMethod ({ cls := "PlugHallModel", name := "isOne", desc := "(II)Z" } : Jvm.MethodName)) ∈ lw_all := lw_g (lw_at lw_m9 103 rfl) rfl
theorem q2119 : (Jvm.Cond.code ({ cls := "PlugHallModel", name := "isOne", desc := "(II)Z" } : Jvm.MethodName) prog_14_method_96_code (3 : Nat) (Option.some Jvm.ClassFile.FieldType.boolean)) ∈ lw_all := lw_g (lw_at lw_m9 104 rfl) rfl
theorem q2120 : (Jvm.Cond.methodLink "PlugHallLaw" (181 : Nat) ({ cls := "PlugHallModel", name := "friday", desc := "()I" } : Jvm.MethodName)) ∈ lw_all := lw_g (lw_at lw_m9 105 rfl) rfl
theorem q2121 : (Jvm.Cond.instanceMethod ({ cls := "PlugHallModel", name := "friday", desc := "()I" } : Jvm.MethodName)) ∈ lw_all := lw_g (lw_at lw_m9 106 rfl) rfl
theorem q2122 : (Jvm.Cond.selects "PlugHallModel" ({ cls := "PlugHallModel", name := "friday", desc := "()I" } : Jvm.MethodName) ({ cls := "PlugHallModel", name := "friday", desc := "()I" } : Jvm.MethodName)) ∈ lw_all := lw_g (lw_at lw_m9 107 rfl) rfl
theorem q2123 : (Jvm.Cond.code ({ cls := "PlugHallModel", name := "friday", desc := "()I" } : Jvm.MethodName) prog_14_method_98_code (7 : Nat) (Option.some Jvm.ClassFile.FieldType.int)) ∈ lw_all := lw_g (lw_at lw_m9 108 rfl) rfl
theorem q2124 : (Jvm.Cond.methodLink "PlugHallModel" (545 : Nat) ({ cls := "PlugHallModel", name := "spell", desc := "(III)V" } : Jvm.MethodName)) ∈ lw_all := lw_g (lw_at lw_m9 109 rfl) rfl
theorem q2125 : (Jvm.Cond.privateMethod ({ cls := "PlugHallModel", name := "spell", desc := "(III)V" } : Jvm.MethodName)) ∈ lw_tbl := lw_at lw_m9 110 rfl
theorem q2126 : (Jvm.Cond.instanceMethod ({ cls := "PlugHallModel", name := "spell", desc := "(III)V" } : Jvm.MethodName)) ∈ lw_all := lw_g (lw_at lw_m9 111 rfl) rfl
theorem q2127 : (Jvm.Cond.code ({ cls := "PlugHallModel", name := "spell", desc := "(III)V" } : Jvm.MethodName) prog_14_method_99_code (10 : Nat) (Option.none : Option Jvm.ClassFile.FieldType)) ∈ lw_all := lw_g (lw_at lw_m9 112 rfl) rfl
theorem q2128 : (Jvm.Cond.methodLink "PlugHallModel" (548 : Nat) ({ cls := "PlugHallModel", name := "ends", desc := "(I)I" } : Jvm.MethodName)) ∈ lw_all := lw_g (lw_at lw_m9 113 rfl) rfl
theorem q2129 : (Jvm.Cond.privateMethod ({ cls := "PlugHallModel", name := "ends", desc := "(I)I" } : Jvm.MethodName)) ∈ lw_tbl := lw_at lw_m9 114 rfl
theorem q2130 : (Jvm.Cond.instanceMethod ({ cls := "PlugHallModel", name := "ends", desc := "(I)I" } : Jvm.MethodName)) ∈ lw_all := lw_g (lw_at lw_m9 115 rfl) rfl
theorem q2131 : (Jvm.Cond.code ({ cls := "PlugHallModel", name := "ends", desc := "(I)I" } : Jvm.MethodName) prog_14_method_100_code (5 : Nat) (Option.some Jvm.ClassFile.FieldType.int)) ∈ lw_all := lw_g (lw_at lw_m9 116 rfl) rfl
theorem q2132 : (Jvm.Cond.methodLink "PlugHallLaw" (185 : Nat) ({ cls := "PlugHallModel", name := "fridayAt", desc := "(I)I" } : Jvm.MethodName)) ∈ lw_all := lw_g (lw_at lw_m9 117 rfl) rfl
theorem q2133 : (Jvm.Cond.instanceMethod ({ cls := "PlugHallModel", name := "fridayAt", desc := "(I)I" } : Jvm.MethodName)) ∈ lw_all := lw_g (lw_at lw_m9 118 rfl) rfl
theorem q2134 : (Jvm.Cond.selects "PlugHallModel" ({ cls := "PlugHallModel", name := "fridayAt", desc := "(I)I" } : Jvm.MethodName) ({ cls := "PlugHallModel", name := "fridayAt", desc := "(I)I" } : Jvm.MethodName)) ∈ lw_all := lw_g (lw_at lw_m9 119 rfl) rfl
theorem q2135 : (Jvm.Cond.code ({ cls := "PlugHallModel", name := "fridayAt", desc := "(I)I" } : Jvm.MethodName) prog_14_method_101_code (2 : Nat) (Option.some Jvm.ClassFile.FieldType.int)) ∈ lw_all := lw_g (lw_at lw_m9 120 rfl) rfl
theorem q2136 : (Jvm.Cond.methodLink "PlugHallLaw" (189 : Nat) ({ cls := "PlugHallModel", name := "count", desc := "(I)I" } : Jvm.MethodName)) ∈ lw_all := lw_g (lw_at lw_m9 121 rfl) rfl
theorem q2137 : (Jvm.Cond.instanceMethod ({ cls := "PlugHallModel", name := "count", desc := "(I)I" } : Jvm.MethodName)) ∈ lw_all := lw_g (lw_at lw_m9 122 rfl) rfl
theorem q2138 : (Jvm.Cond.selects "PlugHallModel" ({ cls := "PlugHallModel", name := "count", desc := "(I)I" } : Jvm.MethodName) ({ cls := "PlugHallModel", name := "count", desc := "(I)I" } : Jvm.MethodName)) ∈ lw_all := lw_g (lw_at lw_m9 123 rfl) rfl
theorem q2139 : (Jvm.Cond.code ({ cls := "PlugHallModel", name := "count", desc := "(I)I" } : Jvm.MethodName) prog_14_method_102_code (4 : Nat) (Option.some Jvm.ClassFile.FieldType.int)) ∈ lw_all := lw_g (lw_at lw_m9 124 rfl) rfl
theorem q2140 : (Jvm.Cond.sameMethod "PlugHall$Tokens" "PlugHall$Tokens" "byteAt" "(I)I") ∈ lw_all := lw_g (lw_at lw_m9 125 rfl) rfl
theorem q2141 : (Jvm.Cond.sameMethod "PlugHall$Tokens" "PlugHall$Tokens" "letters" "()V") ∈ lw_all := lw_g (lw_at lw_m9 126 rfl) rfl
theorem q2142 : (Jvm.Cond.sameMethod "java/lang/AbstractStringBuilder" "java/lang/AbstractStringBuilder" "append" "(C)Ljava/lang/AbstractStringBuilder;") ∈ lw_all := lw_g (lw_at lw_m9 127 rfl) rfl
theorem q2143 : (Jvm.Cond.sameMethod "java/lang/AbstractStringBuilder" "java/lang/AbstractStringBuilder" "ensureCapacityInternal" "(I)V") ∈ lw_all := lw_g (lw_at lw_m9 128 rfl) rfl
theorem q2144 : (Jvm.Cond.sameMethod "java/lang/AbstractStringBuilder" "java/lang/AbstractStringBuilder" "newCapacity" "(I)I") ∈ lw_all := lw_g (lw_at lw_m9 129 rfl) rfl
theorem q2145 : (Jvm.Cond.sameMethod "java/lang/AbstractStringBuilder" "java/lang/AbstractStringBuilder" "inflate" "()V") ∈ lw_all := lw_g (lw_at lw_m9 130 rfl) rfl
theorem q2146 : (Jvm.Cond.sameMethod "PlugHall$Tokens" "PlugHall$Tokens" "digits" "()V") ∈ lw_all := lw_g (lw_at lw_m9 131 rfl) rfl
theorem q2147 : (Jvm.Cond.sameMethod "java/lang/Throwable" "java/lang/Throwable" "fillInStackTrace" "(I)Ljava/lang/Throwable;") ∈ lw_all := lw_g (lw_at lw_m9 132 rfl) rfl
theorem q2148 : (Jvm.Cond.sameMethod "PlugHall$Tokens" "PlugHall$Tokens" "need" "(ZI)V") ∈ lw_all := lw_g (lw_at lw_m9 133 rfl) rfl
theorem q2149 : (Jvm.Cond.selects "PlugHall$JobReader" ({ cls := "PlugHall$Tokens", name := "need", desc := "(ZI)V" } : Jvm.MethodName) ({ cls := "PlugHall$Tokens", name := "need", desc := "(ZI)V" } : Jvm.MethodName)) ∈ lw_all := lw_g (lw_at lw_m9 134 rfl) rfl
theorem q2150 : (Jvm.Cond.selects "PlugHall$Reader" ({ cls := "PlugHall$Tokens", name := "need", desc := "(ZI)V" } : Jvm.MethodName) ({ cls := "PlugHall$Tokens", name := "need", desc := "(ZI)V" } : Jvm.MethodName)) ∈ lw_all := lw_g (lw_at lw_m9 135 rfl) rfl
theorem q2151 : (Jvm.Cond.sameMethod "PlugHall$Tokens" "PlugHall$Tokens" "go" "()V") ∈ lw_all := lw_g (lw_at lw_m9 136 rfl) rfl
theorem q2152 : (Jvm.Cond.selects "PlugHall$JobReader" ({ cls := "PlugHall$Tokens", name := "go", desc := "()V" } : Jvm.MethodName) ({ cls := "PlugHall$Tokens", name := "go", desc := "()V" } : Jvm.MethodName)) ∈ lw_all := lw_g (lw_at lw_m9 137 rfl) rfl
theorem q2153 : (Jvm.Cond.selects "PlugHall$Reader" ({ cls := "PlugHall$Tokens", name := "go", desc := "()V" } : Jvm.MethodName) ({ cls := "PlugHall$Tokens", name := "go", desc := "()V" } : Jvm.MethodName)) ∈ lw_all := lw_g (lw_at lw_m9 138 rfl) rfl
theorem q2154 : (Jvm.Cond.sameMethod "java/lang/AbstractStringBuilder" "java/lang/AbstractStringBuilder" "append" "(Ljava/lang/String;)Ljava/lang/AbstractStringBuilder;") ∈ lw_all := lw_g (lw_at lw_m9 139 rfl) rfl
theorem q2155 : (Jvm.Cond.sameMethod "java/lang/AbstractStringBuilder" "java/lang/AbstractStringBuilder" "appendNull" "()Ljava/lang/AbstractStringBuilder;") ∈ lw_all := lw_g (lw_at lw_m9 140 rfl) rfl
theorem q2156 : (Jvm.Cond.sameMethod "java/lang/AbstractStringBuilder" "java/lang/AbstractStringBuilder" "putStringAt" "(ILjava/lang/String;)V") ∈ lw_all := lw_g (lw_at lw_m9 141 rfl) rfl
theorem q2157 : (Jvm.Cond.sameMethod "java/lang/AbstractStringBuilder" "java/lang/AbstractStringBuilder" "inflateIfNeededFor" "(Ljava/lang/String;)V") ∈ lw_all := lw_g (lw_at lw_m9 142 rfl) rfl
theorem q2158 : (Jvm.Cond.castable "PlugHall" "java/lang/Object") ∈ lw_tbl := lw_at lw_m9 143 rfl
theorem q2159 : (Jvm.Cond.castable "PlugHall$Board" "java/lang/Object") ∈ lw_tbl := lw_at lw_m9 144 rfl
theorem q2160 : (Jvm.Cond.castable "PlugHall$Machine" "java/lang/Object") ∈ lw_tbl := lw_at lw_m9 145 rfl
theorem q2161 : (Jvm.Cond.castable "PlugHall$Outcome" "java/lang/Object") ∈ lw_tbl := lw_at lw_m9 146 rfl
theorem q2162 : (Jvm.Cond.castable "PlugHall$Job" "java/lang/Object") ∈ lw_tbl := lw_at lw_m9 147 rfl
theorem q2163 : (Jvm.Cond.castable "PlugHall$Box" "java/lang/Object") ∈ lw_tbl := lw_at lw_m9 148 rfl
theorem q2164 : (Jvm.Cond.castable "PlugHallModel" "java/lang/Object") ∈ lw_tbl := lw_at lw_m9 149 rfl
theorem q2165 : (Jvm.Cond.castable "java/util/NoSuchElementException" "java/lang/Object") ∈ lw_tbl := lw_at lw_m9 150 rfl
theorem q2166 : (Jvm.Cond.castable "PlugHall$Reader" "java/lang/Object") ∈ lw_tbl := lw_at lw_m9 151 rfl
theorem q2167 : (Jvm.Cond.castable "java/lang/StringBuilder" "java/lang/Object") ∈ lw_tbl := lw_at lw_m9 152 rfl
theorem q2168 : (Jvm.Cond.castable "java/lang/String" "java/lang/Object") ∈ lw_tbl := lw_at lw_m9 153 rfl
theorem q2169 : (Jvm.Cond.castable "PlugHall$Sort" "java/lang/Object") ∈ lw_tbl := lw_at lw_m9 154 rfl
theorem q2170 : (Jvm.Cond.castable "PlugHall$Fault" "java/lang/Object") ∈ lw_tbl := lw_at lw_m9 155 rfl
theorem q2171 : (Jvm.Cond.castable "PlugHall$JobReader" "java/lang/Object") ∈ lw_tbl := lw_at lw_m9 156 rfl
theorem q2172 : (Jvm.Cond.castable "PlugHall$Maker" "java/lang/Object") ∈ lw_tbl := lw_at lw_m9 157 rfl
theorem q2173 : (Jvm.Cond.castable "java/lang/Throwable" "java/lang/Object") ∈ lw_tbl := lw_at lw_m9 158 rfl
theorem q2174 : (Jvm.Cond.fieldLinkNest "PlugHall$Reader" (32 : Nat) "PlugHall$Sort" "word" "Ljava/lang/String;" "PlugHall") ∈ lw_tbl := lw_at lw_m9 159 rfl
theorem q2175 : (Jvm.Cond.fieldLinkNest "PlugHall$Reader" (62 : Nat) "PlugHall$Sort" "from" "I" "PlugHall") ∈ lw_tbl := lw_at lw_m9 160 rfl
theorem q2176 : (Jvm.Cond.fieldLinkNest "PlugHall$Reader" (63 : Nat) "PlugHall$Sort" "first" "I" "PlugHall") ∈ lw_tbl := lw_at lw_m9 161 rfl
theorem q2177 : (Jvm.Cond.fieldLinkNest "PlugHall$Reader" (70 : Nat) "PlugHall$Sort" "second" "I" "PlugHall") ∈ lw_tbl := lw_at lw_m9 162 rfl
theorem q2178 : (Jvm.Cond.fieldLinkNest "PlugHall" (345 : Nat) "PlugHall$Sort" "from" "I" "PlugHall") ∈ lw_tbl := lw_at lw_m9 163 rfl
theorem q2179 : (Jvm.Cond.fieldLinkNest "PlugHall" (350 : Nat) "PlugHall$Sort" "first" "I" "PlugHall") ∈ lw_tbl := lw_at lw_m9 164 rfl
theorem q2180 : (Jvm.Cond.fieldLinkNest "PlugHall" (356 : Nat) "PlugHall$Sort" "second" "I" "PlugHall") ∈ lw_tbl := lw_at lw_m9 165 rfl
theorem q2181 : (Jvm.Cond.laysStatic "PlugHall$Sort" "CARD" "LPlugHall$Sort;") ∈ lw_tbl := lw_at lw_m9 166 rfl
theorem q2182 : (Jvm.Cond.laysStatic "PlugHall$Sort" "AHEAD" "LPlugHall$Sort;") ∈ lw_tbl := lw_at lw_m9 167 rfl
theorem q2183 : (Jvm.Cond.laysStatic "PlugHall$Sort" "HOLE" "LPlugHall$Sort;") ∈ lw_tbl := lw_at lw_m9 168 rfl
theorem q2184 : (Jvm.Cond.laysStatic "PlugHall$Sort" "EVERY" "LPlugHall$Sort;") ∈ lw_tbl := lw_at lw_m9 169 rfl
theorem q2185 : (Jvm.Cond.laysStatic "PlugHall$Sort" "UNLIKE" "LPlugHall$Sort;") ∈ lw_tbl := lw_at lw_m9 170 rfl
theorem q2186 : (Jvm.Cond.laysStatic "PlugHall$Sort" "TOTAL" "LPlugHall$Sort;") ∈ lw_tbl := lw_at lw_m9 171 rfl
theorem q2187 : (Jvm.Cond.laysStatic "PlugHall$Sort" "OUT" "LPlugHall$Sort;") ∈ lw_tbl := lw_at lw_m9 172 rfl
theorem q2188 : (Jvm.Cond.laysStatic "PlugHall$Sort" "BELOW" "LPlugHall$Sort;") ∈ lw_tbl := lw_at lw_m9 173 rfl
theorem q2189 : (Jvm.Cond.laysStatic "PlugHall$Sort" "IN" "LPlugHall$Sort;") ∈ lw_tbl := lw_at lw_m9 174 rfl
theorem q2190 : (Jvm.Cond.laysStatic "PlugHall$Sort" "ADD" "LPlugHall$Sort;") ∈ lw_tbl := lw_at lw_m9 175 rfl
theorem q2191 : (Jvm.Cond.laysStatic "PlugHall$Sort" "TAKE" "LPlugHall$Sort;") ∈ lw_tbl := lw_at lw_m9 176 rfl
theorem q2192 : (Jvm.Cond.laysStatic "PlugHall$Sort" "EMPTY" "LPlugHall$Sort;") ∈ lw_tbl := lw_at lw_m9 177 rfl
theorem q2193 : (Jvm.Cond.laysStatic "PlugHall$Sort" "PRINT" "LPlugHall$Sort;") ∈ lw_tbl := lw_at lw_m9 178 rfl
theorem q2194 : (Jvm.Cond.laysStatic "PlugHall$Sort" "PICK" "LPlugHall$Sort;") ∈ lw_tbl := lw_at lw_m9 179 rfl
theorem q2195 : (Jvm.Cond.laysStatic "PlugHall$Sort" "ONE" "LPlugHall$Sort;") ∈ lw_tbl := lw_at lw_m9 180 rfl
theorem q2196 : (Jvm.Cond.laysStatic "PlugHall$Sort" "OTHER" "LPlugHall$Sort;") ∈ lw_tbl := lw_at lw_m9 181 rfl
theorem q2197 : (Jvm.Cond.laysStatic "PlugHall$Sort" "BREAK" "LPlugHall$Sort;") ∈ lw_tbl := lw_at lw_m9 182 rfl
theorem q2198 : (Jvm.Cond.laysStatic "PlugHall$Sort" "PUNCH" "LPlugHall$Sort;") ∈ lw_tbl := lw_at lw_m9 183 rfl
theorem q2199 : (Jvm.Cond.laysStatic "PlugHall$Sort" "MAKE" "LPlugHall$Sort;") ∈ lw_tbl := lw_at lw_m9 184 rfl
theorem q2200 : (Jvm.Cond.laysStatic "PlugHall$Sort" "STOP" "LPlugHall$Sort;") ∈ lw_tbl := lw_at lw_m9 185 rfl
theorem q2201 : (Jvm.Cond.laysStatic "PlugHall$Sort" "COMMON" "LPlugHall$Sort;") ∈ lw_tbl := lw_at lw_m9 186 rfl
theorem q2202 : (Jvm.Cond.laysStatic "PlugHall$Sort" "NORMAL" "LPlugHall$Sort;") ∈ lw_tbl := lw_at lw_m9 187 rfl
theorem q2203 : (Jvm.Cond.laysStatic "PlugHall$Sort" "THEN" "LPlugHall$Sort;") ∈ lw_tbl := lw_at lw_m9 188 rfl
theorem q2204 : (Jvm.Cond.stringRef "PlugHall$Sort" (109 : Nat) "c") ∈ lw_tbl := lw_at lw_m9 189 rfl
theorem q2205 : (Jvm.Cond.stringRef "PlugHall$Sort" (115 : Nat) "a") ∈ lw_tbl := lw_at lw_m9 190 rfl
theorem q2206 : (Jvm.Cond.stringRef "PlugHall$Sort" (118 : Nat) "x") ∈ lw_tbl := lw_at lw_m9 191 rfl
theorem q2207 : (Jvm.Cond.stringRef "PlugHall$Sort" (121 : Nat) "e") ∈ lw_tbl := lw_at lw_m9 192 rfl
theorem q2208 : (Jvm.Cond.stringRef "PlugHall$Sort" (124 : Nat) "u") ∈ lw_tbl := lw_at lw_m9 193 rfl
theorem q2209 : (Jvm.Cond.stringRef "PlugHall$Sort" (127 : Nat) "t") ∈ lw_tbl := lw_at lw_m9 194 rfl
theorem q2210 : (Jvm.Cond.stringRef "PlugHall$Sort" (130 : Nat) "o") ∈ lw_tbl := lw_at lw_m9 195 rfl
theorem q2211 : (Jvm.Cond.stringRef "PlugHall$Sort" (133 : Nat) "z") ∈ lw_tbl := lw_at lw_m9 196 rfl
theorem q2212 : (Jvm.Cond.stringRef "PlugHall$Sort" (136 : Nat) "i") ∈ lw_tbl := lw_at lw_m9 197 rfl
theorem q2213 : (Jvm.Cond.stringRef "PlugHall$Sort" (139 : Nat) "plus") ∈ lw_tbl := lw_at lw_m9 198 rfl
theorem q2214 : (Jvm.Cond.stringRef "PlugHall$Sort" (142 : Nat) "minus") ∈ lw_tbl := lw_at lw_m9 199 rfl
theorem q2215 : (Jvm.Cond.stringRef "PlugHall$Sort" (145 : Nat) "clear") ∈ lw_tbl := lw_at lw_m9 200 rfl
theorem q2216 : (Jvm.Cond.stringRef "PlugHall$Sort" (148 : Nat) "p") ∈ lw_tbl := lw_at lw_m9 201 rfl
theorem q2217 : (Jvm.Cond.stringRef "PlugHall$Sort" (151 : Nat) "s") ∈ lw_tbl := lw_at lw_m9 202 rfl
theorem q2218 : (Jvm.Cond.stringRef "PlugHall$Sort" (154 : Nat) "ka") ∈ lw_tbl := lw_at lw_m9 203 rfl
theorem q2219 : (Jvm.Cond.stringRef "PlugHall$Sort" (157 : Nat) "kb") ∈ lw_tbl := lw_at lw_m9 204 rfl
theorem q2220 : (Jvm.Cond.stringRef "PlugHall$Sort" (160 : Nat) "b") ∈ lw_tbl := lw_at lw_m9 205 rfl
theorem q2221 : (Jvm.Cond.stringRef "PlugHall$Sort" (163 : Nat) "q") ∈ lw_tbl := lw_at lw_m9 206 rfl
theorem q2222 : (Jvm.Cond.stringRef "PlugHall$Sort" (166 : Nat) "m") ∈ lw_tbl := lw_at lw_m9 207 rfl
theorem q2223 : (Jvm.Cond.stringRef "PlugHall$Sort" (169 : Nat) "halt") ∈ lw_tbl := lw_at lw_m9 208 rfl
theorem q2224 : (Jvm.Cond.stringRef "PlugHall$Sort" (172 : Nat) "rc") ∈ lw_tbl := lw_at lw_m9 209 rfl
theorem q2225 : (Jvm.Cond.stringRef "PlugHall$Sort" (175 : Nat) "rn") ∈ lw_tbl := lw_at lw_m9 210 rfl
theorem q2226 : (Jvm.Cond.stringRef "PlugHall$Sort" (178 : Nat) "rt") ∈ lw_tbl := lw_at lw_m9 211 rfl
