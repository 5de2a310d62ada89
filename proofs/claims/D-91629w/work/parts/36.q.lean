/-! words, by place; what the calls need -/
set_option maxRecDepth 100000
theorem q104 : (Jvm.Cond.initialized "FastPlane") ∈ lw_all := lw_g (lw_at lw_m1 1 rfl) rfl
theorem q105 : (Jvm.Cond.initialized "FastPlane$Machine") ∈ lw_all := lw_g (lw_at lw_m1 2 rfl) rfl
theorem q106 : (Jvm.Cond.initialized "java/util/AbstractCollection") ∈ lw_all := lw_g (lw_at lw_m1 3 rfl) rfl
theorem q107 : (Jvm.Cond.initialized "java/util/AbstractList") ∈ lw_all := lw_g (lw_at lw_m1 4 rfl) rfl
theorem q108 : (Jvm.Cond.initialized "java/util/ArrayList") ∈ lw_all := lw_g (lw_at lw_m1 5 rfl) rfl
theorem q109 : (Jvm.Cond.initialized "FastPlane$Treaty") ∈ lw_all := lw_g (lw_at lw_m1 6 rfl) rfl
theorem q110 : (Jvm.Cond.initialized "FastPlaneModel") ∈ lw_all := lw_g (lw_at lw_m1 7 rfl) rfl
theorem q111 : (Jvm.Cond.initialized "FastPlane$Reader") ∈ lw_all := lw_g (lw_at lw_m1 8 rfl) rfl
theorem q112 : (Jvm.Cond.initialized "FastPlane$MachineReader") ∈ lw_all := lw_g (lw_at lw_m1 9 rfl) rfl
theorem q113 : (Jvm.Cond.initialized "java/lang/AbstractStringBuilder") ∈ lw_all := lw_g (lw_at lw_m1 10 rfl) rfl
theorem q114 : (Jvm.Cond.initialized "java/lang/StringBuilder") ∈ lw_all := lw_g (lw_at lw_m1 11 rfl) rfl
theorem q115 : (Jvm.Cond.initialized "java/lang/String") ∈ lw_all := lw_g (lw_at lw_m1 12 rfl) rfl
theorem q117 : (Jvm.Cond.initialized "jdk/internal/util/ArraysSupport") ∈ lw_all := lw_g (lw_at lw_m1 14 rfl) rfl
theorem q118 : (Jvm.Cond.initialized "java/lang/Math") ∈ lw_all := lw_g (lw_at lw_m1 15 rfl) rfl
theorem q119 : (Jvm.Cond.initialized "java/util/Arrays") ∈ lw_all := lw_g (lw_at lw_m1 16 rfl) rfl
theorem q121 : (Jvm.Cond.initialized "java/lang/StringLatin1") ∈ lw_all := lw_g (lw_at lw_m1 18 rfl) rfl
theorem q122 : (Jvm.Cond.initialized "jdk/internal/util/Preconditions") ∈ lw_all := lw_g (lw_at lw_m1 19 rfl) rfl
theorem q124 : (Jvm.Cond.initialized "java/lang/Throwable") ∈ lw_all := lw_g (lw_at lw_m1 21 rfl) rfl
theorem q125 : (Jvm.Cond.initialized "java/lang/Exception") ∈ lw_all := lw_g (lw_at lw_m1 22 rfl) rfl
theorem q126 : (Jvm.Cond.initialized "FastPlane$Wrong") ∈ lw_all := lw_g (lw_at lw_m1 23 rfl) rfl
theorem q127 : (Jvm.Cond.initialized "java/util/Objects") ∈ lw_all := lw_g (lw_at lw_m1 24 rfl) rfl
theorem q128 : (Jvm.Cond.initialized "FastPlane$Part") ∈ lw_all := lw_g (lw_at lw_m1 25 rfl) rfl
theorem q129 : (Jvm.Cond.initialized "FastPlane$Imperial") ∈ lw_all := lw_g (lw_at lw_m1 26 rfl) rfl
theorem q130 : (Jvm.Cond.initialized "FastPlane$Metric") ∈ lw_all := lw_g (lw_at lw_m1 27 rfl) rfl
theorem q131 : (Jvm.Cond.initialized "FastPlane$Link") ∈ lw_all := lw_g (lw_at lw_m1 28 rfl) rfl
theorem q132 : (Jvm.Cond.initialized "FastPlane$TreatyReader") ∈ lw_all := lw_g (lw_at lw_m1 29 rfl) rfl
theorem q133 : (Jvm.Cond.initialized "FastPlane$Ex") ∈ lw_all := lw_g (lw_at lw_m1 30 rfl) rfl
theorem q134 : (Jvm.Cond.initialized "FastPlane$Not") ∈ lw_all := lw_g (lw_at lw_m1 31 rfl) rfl
theorem q135 : (Jvm.Cond.initialized "FastPlane$Word") ∈ lw_all := lw_g (lw_at lw_m1 32 rfl) rfl
theorem q136 : (Jvm.Cond.initialized "FastPlane$Plain") ∈ lw_all := lw_g (lw_at lw_m1 33 rfl) rfl
theorem q137 : (Jvm.Cond.initialized "FastPlane$Chain") ∈ lw_all := lw_g (lw_at lw_m1 34 rfl) rfl
theorem q139 : (Jvm.Cond.initialized "java/lang/Integer") ∈ lw_all := lw_g (lw_at lw_m1 36 rfl) rfl
theorem q141 : (Jvm.Cond.initialized "FastPlane$Order") ∈ lw_all := lw_g (lw_at lw_m1 38 rfl) rfl
theorem q142 : (Jvm.Cond.initialized "FastPlane$Join") ∈ lw_all := lw_g (lw_at lw_m1 39 rfl) rfl
theorem q143 : (Jvm.Cond.initialized "FastPlane$Fact") ∈ lw_all := lw_g (lw_at lw_m1 40 rfl) rfl
theorem q144 : (Jvm.Cond.initialized "FastPlane$Change") ∈ lw_all := lw_g (lw_at lw_m1 41 rfl) rfl
theorem q145 : (Jvm.Cond.initialized "FastPlane$Estimate") ∈ lw_all := lw_g (lw_at lw_m1 42 rfl) rfl
theorem q146 : (Jvm.Cond.initialized "FastPlane$Show") ∈ lw_all := lw_g (lw_at lw_m1 43 rfl) rfl
theorem q147 : (Jvm.Cond.classLink "FastPlaneLaw" (7 : Nat) "FastPlane") ∈ lw_all := lw_g (lw_at lw_m1 44 rfl) rfl
theorem q148 : (Jvm.Cond.instantiable "FastPlane" (34 : Nat)) ∈ lw_all := lw_g (lw_at lw_m1 45 rfl) rfl
theorem q149 : (Jvm.Cond.methodLink "FastPlaneLaw" (9 : Nat) ({ cls := "FastPlane", name := "<init>", desc := "()V" } : Jvm.MethodName)) ∈ lw_all := lw_g (lw_at lw_m1 46 rfl) rfl
theorem q150 : (Jvm.Cond.instanceMethod ({ cls := "FastPlane", name := "<init>", desc := "()V" } : Jvm.MethodName)) ∈ lw_all := lw_g (lw_at lw_m1 47 rfl) rfl
theorem q151 : (Jvm.Cond.code ({ cls := "FastPlane", name := "<init>", desc := "()V" } : Jvm.MethodName) prog_1_method_3_code (2 : Nat) (Option.none : Option Jvm.ClassFile.FieldType)) ∈ lw_all := lw_g (lw_at lw_m1 48 rfl) rfl
theorem q152 : (Jvm.Cond.methodLink "FastPlane" (35 : Nat) ({ cls := "java/lang/Object", name := "<init>", desc := "()V" } : Jvm.MethodName)) ∈ lw_all := lw_g (lw_at lw_m1 49 rfl) rfl
theorem q153 : (Jvm.Cond.instanceMethod ({ cls := "java/lang/Object", name := "<init>", desc := "()V" } : Jvm.MethodName)) ∈ lw_all := lw_g (lw_at lw_m1 50 rfl) rfl
theorem q154 : (Jvm.Cond.code ({ cls := "java/lang/Object", name := "<init>", desc := "()V" } : Jvm.MethodName) object_method_1_code (1 : Nat) (Option.none : Option Jvm.ClassFile.FieldType)) ∈ lw_all := lw_g (lw_at lw_m1 51 rfl) rfl
theorem q155 : (Jvm.Cond.classLink "FastPlane" (49 : Nat) "FastPlane$Machine") ∈ lw_all := lw_g (lw_at lw_m1 52 rfl) rfl
theorem q156 : (Jvm.Cond.instantiable "FastPlane$Machine" (9 : Nat)) ∈ lw_all := lw_g (lw_at lw_m1 53 rfl) rfl
theorem q157 : (Jvm.Cond.methodLinkNest "FastPlane" (51 : Nat) ({ cls := "FastPlane$Machine", name := "<init>", desc := "()V" } : Jvm.MethodName) "FastPlane") ∈ lw_tbl := lw_at lw_m1 54 rfl
theorem u157 : (Jvm.Cond.methodLinkNest "FastPlane" (51 : Nat) ({ cls := "FastPlane$Machine", name := "<init>", desc := "()V" } : Jvm.MethodName) "FastPlane") ∈ lw_nw := List.mem_filter.mpr ⟨q157, rfl⟩
theorem q158 : (Jvm.Cond.instanceMethod ({ cls := "FastPlane$Machine", name := "<init>", desc := "()V" } : Jvm.MethodName)) ∈ lw_all := lw_g (lw_at lw_m1 55 rfl) rfl
theorem q159 : (Jvm.Cond.code ({ cls := "FastPlane$Machine", name := "<init>", desc := "()V" } : Jvm.MethodName) prog_10_method_1_code (1 : Nat) (Option.none : Option Jvm.ClassFile.FieldType)) ∈ lw_all := lw_g (lw_at lw_m1 56 rfl) rfl
theorem q160 : (Jvm.Cond.methodLink "FastPlane$Machine" (3 : Nat) ({ cls := "java/lang/Object", name := "<init>", desc := "()V" } : Jvm.MethodName)) ∈ lw_all := lw_g (lw_at lw_m1 57 rfl) rfl
theorem q161 : (Jvm.Cond.classLink "FastPlane$Machine" (9 : Nat) "java/util/ArrayList") ∈ lw_all := lw_g (lw_at lw_m1 58 rfl) rfl
theorem q162 : (Jvm.Cond.instantiable "java/util/ArrayList" (3 : Nat)) ∈ lw_all := lw_g (lw_at lw_m1 59 rfl) rfl
theorem q163 : (Jvm.Cond.methodLink "FastPlane$Machine" (11 : Nat) ({ cls := "java/util/ArrayList", name := "<init>", desc := "(I)V" } : Jvm.MethodName)) ∈ lw_all := lw_g (lw_at lw_m1 60 rfl) rfl
theorem q164 : (Jvm.Cond.instanceMethod ({ cls := "java/util/ArrayList", name := "<init>", desc := "(I)V" } : Jvm.MethodName)) ∈ lw_all := lw_g (lw_at lw_m1 61 rfl) rfl
theorem q165 : (Jvm.Cond.code ({ cls := "java/util/ArrayList", name := "<init>", desc := "(I)V" } : Jvm.MethodName) prog_49_method_1_code (2 : Nat) (Option.none : Option Jvm.ClassFile.FieldType)) ∈ lw_all := lw_g (lw_at lw_m1 62 rfl) rfl
theorem q166 : (Jvm.Cond.methodLink "java/util/ArrayList" (1 : Nat) ({ cls := "java/util/AbstractList", name := "<init>", desc := "()V" } : Jvm.MethodName)) ∈ lw_all := lw_g (lw_at lw_m1 63 rfl) rfl
theorem q167 : (Jvm.Cond.instanceMethod ({ cls := "java/util/AbstractList", name := "<init>", desc := "()V" } : Jvm.MethodName)) ∈ lw_all := lw_g (lw_at lw_m1 64 rfl) rfl
theorem q168 : (Jvm.Cond.code ({ cls := "java/util/AbstractList", name := "<init>", desc := "()V" } : Jvm.MethodName) prog_48_method_1_code (1 : Nat) (Option.none : Option Jvm.ClassFile.FieldType)) ∈ lw_all := lw_g (lw_at lw_m1 65 rfl) rfl
theorem q169 : (Jvm.Cond.methodLink "java/util/AbstractList" (1 : Nat) ({ cls := "java/util/AbstractCollection", name := "<init>", desc := "()V" } : Jvm.MethodName)) ∈ lw_all := lw_g (lw_at lw_m1 66 rfl) rfl
theorem q170 : (Jvm.Cond.instanceMethod ({ cls := "java/util/AbstractCollection", name := "<init>", desc := "()V" } : Jvm.MethodName)) ∈ lw_all := lw_g (lw_at lw_m1 67 rfl) rfl
theorem q171 : (Jvm.Cond.code ({ cls := "java/util/AbstractCollection", name := "<init>", desc := "()V" } : Jvm.MethodName) prog_47_method_1_code (1 : Nat) (Option.none : Option Jvm.ClassFile.FieldType)) ∈ lw_all := lw_g (lw_at lw_m1 68 rfl) rfl
theorem q172 : (Jvm.Cond.methodLink "java/util/AbstractCollection" (1 : Nat) ({ cls := "java/lang/Object", name := "<init>", desc := "()V" } : Jvm.MethodName)) ∈ lw_all := lw_g (lw_at lw_m1 69 rfl) rfl
theorem q173 : (Jvm.Cond.classLink "java/util/ArrayList" (7 : Nat) "java/lang/Object") ∈ lw_all := lw_g (lw_at lw_m1 70 rfl) rfl
theorem q175 : (Jvm.Cond.fieldLink "java/util/ArrayList" (15 : Nat) "java/util/ArrayList" "EMPTY_ELEMENTDATA" "[Ljava/lang/Object;") ∈ lw_all := lw_g (lw_at lw_m1 72 rfl) rfl
theorem q177 : (Jvm.Cond.fieldLink "java/util/ArrayList" (9 : Nat) "java/util/ArrayList" "elementData" "[Ljava/lang/Object;") ∈ lw_all := lw_g (lw_at lw_m1 74 rfl) rfl
theorem q178 : (Jvm.Cond.fieldLink "java/util/ArrayList" (48 : Nat) "java/util/ArrayList" "size" "I") ∈ lw_all := lw_g (lw_at lw_m1 75 rfl) rfl
theorem q179 : (Jvm.Cond.fieldLink "java/util/AbstractList" (7 : Nat) "java/util/AbstractList" "modCount" "I") ∈ lw_all := lw_g (lw_at lw_m1 76 rfl) rfl
theorem q180 : (Jvm.Cond.fieldLink "java/util/ArrayList" (63 : Nat) "java/util/ArrayList" "modCount" "I") ∈ lw_all := lw_g (lw_at lw_m1 77 rfl) rfl
theorem q181 : (Jvm.Cond.sameField "java/util/ArrayList" "java/util/AbstractList" "modCount" "I") ∈ lw_all := lw_g (lw_at lw_m1 78 rfl) rfl
theorem q189 : (Jvm.Cond.arrayClass Jvm.ClassFile.FieldType.byte) ∈ lw_all := lw_g (lw_at lw_m1 86 rfl) rfl
theorem q190 : (Jvm.Cond.fieldLink "FastPlane$Machine" (14 : Nat) "FastPlane$Machine" "parts" "Ljava/util/ArrayList;") ∈ lw_all := lw_g (lw_at lw_m1 87 rfl) rfl
theorem q191 : (Jvm.Cond.fieldLink "FastPlane$MachineReader" (37 : Nat) "FastPlane$Machine" "parts" "Ljava/util/ArrayList;") ∈ lw_all := lw_g (lw_at lw_m1 88 rfl) rfl
theorem q192 : (Jvm.Cond.fieldLink "FastPlane" (178 : Nat) "FastPlane$Machine" "parts" "Ljava/util/ArrayList;") ∈ lw_all := lw_g (lw_at lw_m1 89 rfl) rfl
theorem q193 : (Jvm.Cond.fieldLink "FastPlane$Machine" (20 : Nat) "FastPlane$Machine" "joins" "Ljava/util/ArrayList;") ∈ lw_all := lw_g (lw_at lw_m1 90 rfl) rfl
theorem q194 : (Jvm.Cond.fieldLink "FastPlane$MachineReader" (51 : Nat) "FastPlane$Machine" "joins" "Ljava/util/ArrayList;") ∈ lw_all := lw_g (lw_at lw_m1 91 rfl) rfl
theorem q195 : (Jvm.Cond.fieldLink "FastPlane" (201 : Nat) "FastPlane$Machine" "joins" "Ljava/util/ArrayList;") ∈ lw_all := lw_g (lw_at lw_m1 92 rfl) rfl
theorem q196 : (Jvm.Cond.fieldLink "FastPlane$Machine" (23 : Nat) "FastPlane$Machine" "moves" "Ljava/util/ArrayList;") ∈ lw_all := lw_g (lw_at lw_m1 93 rfl) rfl
theorem q197 : (Jvm.Cond.fieldLink "FastPlane$MachineReader" (62 : Nat) "FastPlane$Machine" "moves" "Ljava/util/ArrayList;") ∈ lw_all := lw_g (lw_at lw_m1 94 rfl) rfl
theorem q198 : (Jvm.Cond.fieldLink "FastPlane" (298 : Nat) "FastPlane$Machine" "moves" "Ljava/util/ArrayList;") ∈ lw_all := lw_g (lw_at lw_m1 95 rfl) rfl
theorem q199 : (Jvm.Cond.fieldLink "FastPlane$Machine" (26 : Nat) "FastPlane$Machine" "at" "[I") ∈ lw_all := lw_g (lw_at lw_m1 96 rfl) rfl
theorem q200 : (Jvm.Cond.fieldLink "FastPlane$MachineReader" (149 : Nat) "FastPlane$Machine" "at" "[I") ∈ lw_all := lw_g (lw_at lw_m1 97 rfl) rfl
theorem q201 : (Jvm.Cond.fieldLink "FastPlane" (328 : Nat) "FastPlane$Machine" "at" "[I") ∈ lw_all := lw_g (lw_at lw_m1 98 rfl) rfl
theorem q202 : (Jvm.Cond.fieldLink "FastPlane$Machine" (30 : Nat) "FastPlane$Machine" "holds" "[I") ∈ lw_all := lw_g (lw_at lw_m1 99 rfl) rfl
theorem q203 : (Jvm.Cond.fieldLink "FastPlane$MachineReader" (154 : Nat) "FastPlane$Machine" "holds" "[I") ∈ lw_all := lw_g (lw_at lw_m1 100 rfl) rfl
theorem q204 : (Jvm.Cond.fieldLink "FastPlane" (326 : Nat) "FastPlane$Machine" "holds" "[I") ∈ lw_all := lw_g (lw_at lw_m1 101 rfl) rfl
theorem q205 : (Jvm.Cond.fieldLink "FastPlane$Machine" (33 : Nat) "FastPlane$Machine" "grounds" "[I") ∈ lw_all := lw_g (lw_at lw_m1 102 rfl) rfl
theorem q206 : (Jvm.Cond.fieldLink "FastPlane$MachineReader" (172 : Nat) "FastPlane$Machine" "grounds" "[I") ∈ lw_all := lw_g (lw_at lw_m1 103 rfl) rfl
theorem q207 : (Jvm.Cond.fieldLink "FastPlane" (351 : Nat) "FastPlane$Machine" "grounds" "[I") ∈ lw_all := lw_g (lw_at lw_m1 104 rfl) rfl
theorem q208 : (Jvm.Cond.fieldLink "FastPlane$Machine" (36 : Nat) "FastPlane$Machine" "rows" "[Z") ∈ lw_all := lw_g (lw_at lw_m1 105 rfl) rfl
theorem q209 : (Jvm.Cond.fieldLink "FastPlane$MachineReader" (156 : Nat) "FastPlane$Machine" "rows" "[Z") ∈ lw_all := lw_g (lw_at lw_m1 106 rfl) rfl
theorem q210 : (Jvm.Cond.fieldLink "FastPlane$MachineReader" (68 : Nat) "FastPlane$Machine" "tanks" "I") ∈ lw_all := lw_g (lw_at lw_m1 107 rfl) rfl
theorem q211 : (Jvm.Cond.fieldLink "FastPlane" (425 : Nat) "FastPlane$Machine" "tanks" "I") ∈ lw_all := lw_g (lw_at lw_m1 108 rfl) rfl
theorem q212 : (Jvm.Cond.fieldLink "FastPlane$MachineReader" (85 : Nat) "FastPlane$Machine" "lines" "I") ∈ lw_all := lw_g (lw_at lw_m1 109 rfl) rfl
theorem q213 : (Jvm.Cond.fieldLink "FastPlane" (158 : Nat) "FastPlane$Machine" "lines" "I") ∈ lw_all := lw_g (lw_at lw_m1 110 rfl) rfl
theorem q233 : (Jvm.Cond.arrayClass Jvm.ClassFile.FieldType.int) ∈ lw_all := lw_g (lw_at lw_m1 130 rfl) rfl
theorem q234 : (Jvm.Cond.arrayClass Jvm.ClassFile.FieldType.boolean) ∈ lw_all := lw_g (lw_at lw_m1 131 rfl) rfl
theorem q235 : (Jvm.Cond.classLink "FastPlane" (56 : Nat) "FastPlane$Treaty") ∈ lw_all := lw_g (lw_at lw_m1 132 rfl) rfl
theorem q237 : (Jvm.Cond.classLink "FastPlane" (62 : Nat) "java/util/ArrayList") ∈ lw_all := lw_g (lw_at lw_m1 134 rfl) rfl
theorem q238 : (Jvm.Cond.methodLink "FastPlane" (64 : Nat) ({ cls := "java/util/ArrayList", name := "<init>", desc := "(I)V" } : Jvm.MethodName)) ∈ lw_all := lw_g (lw_at lw_m1 135 rfl) rfl
theorem q239 : (Jvm.Cond.classLink "FastPlane" (87 : Nat) "[[I") ∈ lw_all := lw_g (lw_at lw_m1 136 rfl) rfl
theorem q241 : (Jvm.Cond.classLink "FastPlane" (119 : Nat) "[[[[Z") ∈ lw_all := lw_g (lw_at lw_m1 138 rfl) rfl
theorem q245 : (Jvm.Cond.instantiable "FastPlane$Treaty" (2 : Nat)) ∈ lw_all := lw_g (lw_at lw_m1 142 rfl) rfl
theorem q246 : (Jvm.Cond.methodLinkNest "FastPlane" (124 : Nat) ({ cls := "FastPlane$Treaty", name := "<init>", desc := "()V" } : Jvm.MethodName) "FastPlane") ∈ lw_tbl := lw_at lw_m1 143 rfl
theorem u246 : (Jvm.Cond.methodLinkNest "FastPlane" (124 : Nat) ({ cls := "FastPlane$Treaty", name := "<init>", desc := "()V" } : Jvm.MethodName) "FastPlane") ∈ lw_nw := List.mem_filter.mpr ⟨q246, rfl⟩
theorem q247 : (Jvm.Cond.instanceMethod ({ cls := "FastPlane$Treaty", name := "<init>", desc := "()V" } : Jvm.MethodName)) ∈ lw_all := lw_g (lw_at lw_m1 144 rfl) rfl
theorem q248 : (Jvm.Cond.code ({ cls := "FastPlane$Treaty", name := "<init>", desc := "()V" } : Jvm.MethodName) prog_19_method_1_code (1 : Nat) (Option.none : Option Jvm.ClassFile.FieldType)) ∈ lw_all := lw_g (lw_at lw_m1 145 rfl) rfl
theorem q249 : (Jvm.Cond.methodLink "FastPlane$Treaty" (3 : Nat) ({ cls := "java/lang/Object", name := "<init>", desc := "()V" } : Jvm.MethodName)) ∈ lw_all := lw_g (lw_at lw_m1 146 rfl) rfl
theorem q250 : (Jvm.Cond.classLink "FastPlane$Treaty" (9 : Nat) "FastPlane$Ex") ∈ lw_all := lw_g (lw_at lw_m1 147 rfl) rfl
theorem q252 : (Jvm.Cond.fieldLink "FastPlane$Treaty" (11 : Nat) "FastPlane$Treaty" "lines" "[LFastPlane$Ex;") ∈ lw_all := lw_g (lw_at lw_m1 149 rfl) rfl
theorem q253 : (Jvm.Cond.fieldLink "FastPlane$TreatyReader" (50 : Nat) "FastPlane$Treaty" "lines" "[LFastPlane$Ex;") ∈ lw_all := lw_g (lw_at lw_m1 150 rfl) rfl
theorem q254 : (Jvm.Cond.fieldLink "FastPlane$TreatyReader" (72 : Nat) "FastPlane$Treaty" "many" "I") ∈ lw_all := lw_g (lw_at lw_m1 151 rfl) rfl
theorem q255 : (Jvm.Cond.fieldLink "FastPlane" (175 : Nat) "FastPlane$Treaty" "many" "I") ∈ lw_all := lw_g (lw_at lw_m1 152 rfl) rfl
theorem q261 : (Jvm.Cond.fieldLinkNest "FastPlane$Reader" (28 : Nat) "FastPlane" "tape" "[B" "FastPlane") ∈ lw_tbl := lw_at lw_m1 158 rfl
theorem u261 : (Jvm.Cond.fieldLinkNest "FastPlane$Reader" (28 : Nat) "FastPlane" "tape" "[B" "FastPlane") ∈ lw_nw := List.mem_filter.mpr ⟨q261, rfl⟩
theorem q262 : (Jvm.Cond.fieldLink "FastPlane" (41 : Nat) "FastPlane" "tape" "[B") ∈ lw_all := lw_g (lw_at lw_m1 159 rfl) rfl
theorem q263 : (Jvm.Cond.fieldLinkNest "FastPlane$Reader" (25 : Nat) "FastPlane" "taped" "I" "FastPlane") ∈ lw_tbl := lw_at lw_m1 160 rfl
theorem u263 : (Jvm.Cond.fieldLinkNest "FastPlane$Reader" (25 : Nat) "FastPlane" "taped" "I" "FastPlane") ∈ lw_nw := List.mem_filter.mpr ⟨q263, rfl⟩
theorem q264 : (Jvm.Cond.fieldLink "FastPlane" (125 : Nat) "FastPlane" "taped" "I") ∈ lw_all := lw_g (lw_at lw_m1 161 rfl) rfl
theorem q265 : (Jvm.Cond.fieldLink "FastPlane" (133 : Nat) "FastPlane" "faultKind" "I") ∈ lw_all := lw_g (lw_at lw_m1 162 rfl) rfl
theorem q266 : (Jvm.Cond.fieldLink "FastPlane" (45 : Nat) "FastPlane" "faultPlace" "I") ∈ lw_all := lw_g (lw_at lw_m1 163 rfl) rfl
theorem q267 : (Jvm.Cond.fieldLink "FastPlane" (52 : Nat) "FastPlane" "machine" "LFastPlane$Machine;") ∈ lw_all := lw_g (lw_at lw_m1 164 rfl) rfl
theorem q268 : (Jvm.Cond.fieldLink "FastPlane" (58 : Nat) "FastPlane" "treaties" "[LFastPlane$Treaty;") ∈ lw_all := lw_g (lw_at lw_m1 165 rfl) rfl
theorem q269 : (Jvm.Cond.fieldLink "FastPlane" (67 : Nat) "FastPlane" "facts" "Ljava/util/ArrayList;") ∈ lw_all := lw_g (lw_at lw_m1 166 rfl) rfl
theorem q270 : (Jvm.Cond.fieldLink "FastPlane" (262 : Nat) "FastPlane" "time" "I") ∈ lw_all := lw_g (lw_at lw_m1 167 rfl) rfl
theorem q271 : (Jvm.Cond.fieldLink "FastPlane" (71 : Nat) "FastPlane" "pump" "I") ∈ lw_all := lw_g (lw_at lw_m1 168 rfl) rfl
theorem q272 : (Jvm.Cond.fieldLink "FastPlane" (151 : Nat) "FastPlane" "steps" "I") ∈ lw_all := lw_g (lw_at lw_m1 169 rfl) rfl
theorem q273 : (Jvm.Cond.fieldLink "FastPlane" (74 : Nat) "FastPlane" "words" "[I") ∈ lw_all := lw_g (lw_at lw_m1 170 rfl) rfl
theorem q274 : (Jvm.Cond.fieldLink "FastPlane" (78 : Nat) "FastPlane" "least" "[I") ∈ lw_all := lw_g (lw_at lw_m1 171 rfl) rfl
theorem q275 : (Jvm.Cond.fieldLink "FastPlane" (81 : Nat) "FastPlane" "most" "[I") ∈ lw_all := lw_g (lw_at lw_m1 172 rfl) rfl
theorem q276 : (Jvm.Cond.fieldLink "FastPlane" (227 : Nat) "FastPlane" "mended" "I") ∈ lw_all := lw_g (lw_at lw_m1 173 rfl) rfl
theorem q277 : (Jvm.Cond.fieldLink "FastPlane" (237 : Nat) "FastPlane" "mendedTo" "I") ∈ lw_all := lw_g (lw_at lw_m1 174 rfl) rfl
theorem q278 : (Jvm.Cond.fieldLink "FastPlane" (234 : Nat) "FastPlane" "mendedFit" "I") ∈ lw_all := lw_g (lw_at lw_m1 175 rfl) rfl
theorem q279 : (Jvm.Cond.fieldLink "FastPlane" (84 : Nat) "FastPlane" "moved" "[I") ∈ lw_all := lw_g (lw_at lw_m1 176 rfl) rfl
theorem q280 : (Jvm.Cond.fieldLink "FastPlane" (89 : Nat) "FastPlane" "rest" "[[I") ∈ lw_all := lw_g (lw_at lw_m1 177 rfl) rfl
theorem q281 : (Jvm.Cond.fieldLink "FastPlane" (92 : Nat) "FastPlane" "fuel" "[I") ∈ lw_all := lw_g (lw_at lw_m1 178 rfl) rfl
theorem q282 : (Jvm.Cond.fieldLink "FastPlane" (95 : Nat) "FastPlane" "minutes" "[[I") ∈ lw_all := lw_g (lw_at lw_m1 179 rfl) rfl
theorem q283 : (Jvm.Cond.fieldLink "FastPlane" (98 : Nat) "FastPlane" "prices" "[I") ∈ lw_all := lw_g (lw_at lw_m1 180 rfl) rfl
theorem q284 : (Jvm.Cond.fieldLink "FastPlane" (101 : Nat) "FastPlane" "tills" "[I") ∈ lw_all := lw_g (lw_at lw_m1 181 rfl) rfl
theorem q285 : (Jvm.Cond.fieldLink "FastPlane" (104 : Nat) "FastPlane" "rounds" "[I") ∈ lw_all := lw_g (lw_at lw_m1 182 rfl) rfl
theorem q286 : (Jvm.Cond.fieldLink "FastPlane" (358 : Nat) "FastPlane" "airlines" "I") ∈ lw_all := lw_g (lw_at lw_m1 183 rfl) rfl
theorem q287 : (Jvm.Cond.fieldLink "FastPlane" (107 : Nat) "FastPlane" "tried" "[I") ∈ lw_all := lw_g (lw_at lw_m1 184 rfl) rfl
theorem q288 : (Jvm.Cond.fieldLink "FastPlane" (110 : Nat) "FastPlane" "best" "[I") ∈ lw_all := lw_g (lw_at lw_m1 185 rfl) rfl
theorem q289 : (Jvm.Cond.fieldLink "FastPlane" (374 : Nat) "FastPlane" "twice" "I") ∈ lw_all := lw_g (lw_at lw_m1 186 rfl) rfl
theorem q290 : (Jvm.Cond.fieldLink "FastPlane" (377 : Nat) "FastPlane" "allCosts" "I") ∈ lw_all := lw_g (lw_at lw_m1 187 rfl) rfl
theorem q291 : (Jvm.Cond.fieldLink "FastPlane" (113 : Nat) "FastPlane" "stageCosts" "[I") ∈ lw_all := lw_g (lw_at lw_m1 188 rfl) rfl
theorem q292 : (Jvm.Cond.fieldLink "FastPlane" (116 : Nat) "FastPlane" "stageParts" "[I") ∈ lw_all := lw_g (lw_at lw_m1 189 rfl) rfl
theorem q293 : (Jvm.Cond.fieldLink "FastPlane" (393 : Nat) "FastPlane" "stages" "I") ∈ lw_all := lw_g (lw_at lw_m1 190 rfl) rfl
theorem q294 : (Jvm.Cond.fieldLink "FastPlane" (396 : Nat) "FastPlane" "grant" "I") ∈ lw_all := lw_g (lw_at lw_m1 191 rfl) rfl
theorem q295 : (Jvm.Cond.fieldLink "FastPlane" (399 : Nat) "FastPlane" "slack" "I") ∈ lw_all := lw_g (lw_at lw_m1 192 rfl) rfl
theorem q296 : (Jvm.Cond.fieldLink "FastPlane" (121 : Nat) "FastPlane" "safes" "[[[[Z") ∈ lw_all := lw_g (lw_at lw_m1 193 rfl) rfl
theorem q366 : (Jvm.Cond.methodLink "FastPlaneLaw" (13 : Nat) ({ cls := "FastPlane", name := "feed", desc := "(IIIII)I" } : Jvm.MethodName)) ∈ lw_all := lw_g (lw_at lw_m2 23 rfl) rfl
theorem q367 : (Jvm.Cond.instanceMethod ({ cls := "FastPlane", name := "feed", desc := "(IIIII)I" } : Jvm.MethodName)) ∈ lw_all := lw_g (lw_at lw_m2 24 rfl) rfl
theorem q368 : (Jvm.Cond.selects "FastPlane" ({ cls := "FastPlane", name := "feed", desc := "(IIIII)I" } : Jvm.MethodName) ({ cls := "FastPlane", name := "feed", desc := "(IIIII)I" } : Jvm.MethodName)) ∈ lw_all := lw_g (lw_at lw_m2 25 rfl) rfl
theorem q369 : (Jvm.Cond.code ({ cls := "FastPlane", name := "feed", desc := "(IIIII)I" } : Jvm.MethodName) prog_1_method_4_code (12 : Nat) (Option.some Jvm.ClassFile.FieldType.int)) ∈ lw_all := lw_g (lw_at lw_m2 26 rfl) rfl
theorem q370 : (Jvm.Cond.methodLink "FastPlaneLaw" (18 : Nat) ({ cls := "FastPlane", name := "end", desc := "(I)I" } : Jvm.MethodName)) ∈ lw_all := lw_g (lw_at lw_m2 27 rfl) rfl
theorem q371 : (Jvm.Cond.instanceMethod ({ cls := "FastPlane", name := "end", desc := "(I)I" } : Jvm.MethodName)) ∈ lw_all := lw_g (lw_at lw_m2 28 rfl) rfl
theorem q372 : (Jvm.Cond.selects "FastPlane" ({ cls := "FastPlane", name := "end", desc := "(I)I" } : Jvm.MethodName) ({ cls := "FastPlane", name := "end", desc := "(I)I" } : Jvm.MethodName)) ∈ lw_all := lw_g (lw_at lw_m2 29 rfl) rfl
theorem q373 : (Jvm.Cond.code ({ cls := "FastPlane", name := "end", desc := "(I)I" } : Jvm.MethodName) prog_1_method_5_code (2 : Nat) (Option.some Jvm.ClassFile.FieldType.int)) ∈ lw_all := lw_g (lw_at lw_m2 30 rfl) rfl
theorem q374 : (Jvm.Cond.methodLink "FastPlaneLaw" (23 : Nat) ({ cls := "FastPlane", name := "machine", desc := "()I" } : Jvm.MethodName)) ∈ lw_all := lw_g (lw_at lw_m2 31 rfl) rfl
theorem q375 : (Jvm.Cond.instanceMethod ({ cls := "FastPlane", name := "machine", desc := "()I" } : Jvm.MethodName)) ∈ lw_all := lw_g (lw_at lw_m2 32 rfl) rfl
theorem q376 : (Jvm.Cond.selects "FastPlane" ({ cls := "FastPlane", name := "machine", desc := "()I" } : Jvm.MethodName) ({ cls := "FastPlane", name := "machine", desc := "()I" } : Jvm.MethodName)) ∈ lw_all := lw_g (lw_at lw_m2 33 rfl) rfl
theorem q377 : (Jvm.Cond.codeWith ({ cls := "FastPlane", name := "machine", desc := "()I" } : Jvm.MethodName) prog_1_method_7_code (2 : Nat) (Option.some Jvm.ClassFile.FieldType.int) [((0 : Nat), (39 : Nat), (40 : Nat), (129 : Nat))]) ∈ lw_all := lw_g (lw_at lw_m2 34 rfl) rfl
theorem q378 : (Jvm.Cond.classLink "FastPlane" (129 : Nat) "FastPlane$Wrong") ∈ lw_all := lw_g (lw_at lw_m2 35 rfl) rfl
theorem q379 : (Jvm.Cond.classLink "FastPlane" (139 : Nat) "FastPlane$MachineReader") ∈ lw_all := lw_g (lw_at lw_m2 36 rfl) rfl
theorem q380 : (Jvm.Cond.instantiable "FastPlane$MachineReader" (9 : Nat)) ∈ lw_all := lw_g (lw_at lw_m2 37 rfl) rfl
theorem q381 : (Jvm.Cond.methodLinkNest "FastPlane" (141 : Nat) ({ cls := "FastPlane$MachineReader", name := "<init>", desc := "(LFastPlane;)V" } : Jvm.MethodName) "FastPlane") ∈ lw_tbl := lw_at lw_m2 38 rfl
theorem u381 : (Jvm.Cond.methodLinkNest "FastPlane" (141 : Nat) ({ cls := "FastPlane$MachineReader", name := "<init>", desc := "(LFastPlane;)V" } : Jvm.MethodName) "FastPlane") ∈ lw_nw := List.mem_filter.mpr ⟨q381, rfl⟩
theorem q382 : (Jvm.Cond.instanceMethod ({ cls := "FastPlane$MachineReader", name := "<init>", desc := "(LFastPlane;)V" } : Jvm.MethodName)) ∈ lw_all := lw_g (lw_at lw_m2 39 rfl) rfl
theorem q383 : (Jvm.Cond.code ({ cls := "FastPlane$MachineReader", name := "<init>", desc := "(LFastPlane;)V" } : Jvm.MethodName) prog_11_method_1_code (2 : Nat) (Option.none : Option Jvm.ClassFile.FieldType)) ∈ lw_all := lw_g (lw_at lw_m2 40 rfl) rfl
theorem q384 : (Jvm.Cond.methodLinkNest "FastPlane$MachineReader" (9 : Nat) ({ cls := "FastPlane$Reader", name := "<init>", desc := "(LFastPlane;)V" } : Jvm.MethodName) "FastPlane") ∈ lw_tbl := lw_at lw_m2 41 rfl
theorem u384 : (Jvm.Cond.methodLinkNest "FastPlane$MachineReader" (9 : Nat) ({ cls := "FastPlane$Reader", name := "<init>", desc := "(LFastPlane;)V" } : Jvm.MethodName) "FastPlane") ∈ lw_nw := List.mem_filter.mpr ⟨q384, rfl⟩
theorem q385 : (Jvm.Cond.instanceMethod ({ cls := "FastPlane$Reader", name := "<init>", desc := "(LFastPlane;)V" } : Jvm.MethodName)) ∈ lw_all := lw_g (lw_at lw_m2 42 rfl) rfl
theorem q386 : (Jvm.Cond.code ({ cls := "FastPlane$Reader", name := "<init>", desc := "(LFastPlane;)V" } : Jvm.MethodName) prog_17_method_1_code (2 : Nat) (Option.none : Option Jvm.ClassFile.FieldType)) ∈ lw_all := lw_g (lw_at lw_m2 43 rfl) rfl
theorem q387 : (Jvm.Cond.methodLink "FastPlane$Reader" (9 : Nat) ({ cls := "java/lang/Object", name := "<init>", desc := "()V" } : Jvm.MethodName)) ∈ lw_all := lw_g (lw_at lw_m2 44 rfl) rfl
theorem q389 : (Jvm.Cond.classLink "FastPlane$MachineReader" (15 : Nat) "FastPlane$Machine") ∈ lw_all := lw_g (lw_at lw_m2 46 rfl) rfl
theorem q390 : (Jvm.Cond.methodLinkNest "FastPlane$MachineReader" (17 : Nat) ({ cls := "FastPlane$Machine", name := "<init>", desc := "()V" } : Jvm.MethodName) "FastPlane") ∈ lw_tbl := lw_at lw_m2 47 rfl
theorem u390 : (Jvm.Cond.methodLinkNest "FastPlane$MachineReader" (17 : Nat) ({ cls := "FastPlane$Machine", name := "<init>", desc := "()V" } : Jvm.MethodName) "FastPlane") ∈ lw_nw := List.mem_filter.mpr ⟨q390, rfl⟩
theorem q391 : (Jvm.Cond.fieldLink "FastPlane$MachineReader" (20 : Nat) "FastPlane$MachineReader" "made" "LFastPlane$Machine;") ∈ lw_all := lw_g (lw_at lw_m2 48 rfl) rfl
theorem q392 : (Jvm.Cond.fieldLink "FastPlane$MachineReader" (3 : Nat) "FastPlane$MachineReader" "this$0" "LFastPlane;") ∈ lw_all := lw_g (lw_at lw_m2 49 rfl) rfl
theorem q393 : (Jvm.Cond.fieldLink "FastPlane$Reader" (21 : Nat) "FastPlane$Reader" "at" "I") ∈ lw_all := lw_g (lw_at lw_m2 50 rfl) rfl
theorem q394 : (Jvm.Cond.fieldLink "FastPlane$MachineReader" (27 : Nat) "FastPlane$MachineReader" "sort" "I") ∈ lw_all := lw_g (lw_at lw_m2 51 rfl) rfl
theorem q395 : (Jvm.Cond.sameField "FastPlane$MachineReader" "FastPlane$Reader" "sort" "I") ∈ lw_all := lw_g (lw_at lw_m2 52 rfl) rfl
theorem q396 : (Jvm.Cond.fieldLink "FastPlane$TreatyReader" (39 : Nat) "FastPlane$TreatyReader" "sort" "I") ∈ lw_all := lw_g (lw_at lw_m2 53 rfl) rfl
theorem q397 : (Jvm.Cond.sameField "FastPlane$TreatyReader" "FastPlane$Reader" "sort" "I") ∈ lw_all := lw_g (lw_at lw_m2 54 rfl) rfl
theorem q398 : (Jvm.Cond.fieldLink "FastPlane$Reader" (39 : Nat) "FastPlane$Reader" "sort" "I") ∈ lw_all := lw_g (lw_at lw_m2 55 rfl) rfl
theorem q399 : (Jvm.Cond.fieldLink "FastPlane$MachineReader" (100 : Nat) "FastPlane$MachineReader" "place" "I") ∈ lw_all := lw_g (lw_at lw_m2 56 rfl) rfl
theorem q400 : (Jvm.Cond.sameField "FastPlane$MachineReader" "FastPlane$Reader" "place" "I") ∈ lw_all := lw_g (lw_at lw_m2 57 rfl) rfl
theorem q401 : (Jvm.Cond.fieldLink "FastPlane$Reader" (36 : Nat) "FastPlane$Reader" "place" "I") ∈ lw_all := lw_g (lw_at lw_m2 58 rfl) rfl
theorem q402 : (Jvm.Cond.fieldLink "FastPlane$TreatyReader" (159 : Nat) "FastPlane$TreatyReader" "place" "I") ∈ lw_all := lw_g (lw_at lw_m2 59 rfl) rfl
theorem q403 : (Jvm.Cond.sameField "FastPlane$TreatyReader" "FastPlane$Reader" "place" "I") ∈ lw_all := lw_g (lw_at lw_m2 60 rfl) rfl
theorem q404 : (Jvm.Cond.fieldLink "FastPlane$Reader" (62 : Nat) "FastPlane$Reader" "number" "I") ∈ lw_all := lw_g (lw_at lw_m2 61 rfl) rfl
theorem q405 : (Jvm.Cond.fieldLink "FastPlane$TreatyReader" (170 : Nat) "FastPlane$TreatyReader" "number" "I") ∈ lw_all := lw_g (lw_at lw_m2 62 rfl) rfl
theorem q406 : (Jvm.Cond.sameField "FastPlane$TreatyReader" "FastPlane$Reader" "number" "I") ∈ lw_all := lw_g (lw_at lw_m2 63 rfl) rfl
theorem q407 : (Jvm.Cond.fieldLink "FastPlane$MachineReader" (160 : Nat) "FastPlane$MachineReader" "was" "I") ∈ lw_all := lw_g (lw_at lw_m2 64 rfl) rfl
theorem q408 : (Jvm.Cond.sameField "FastPlane$MachineReader" "FastPlane$Reader" "was" "I") ∈ lw_all := lw_g (lw_at lw_m2 65 rfl) rfl
theorem q409 : (Jvm.Cond.fieldLink "FastPlane$Reader" (92 : Nat) "FastPlane$Reader" "was" "I") ∈ lw_all := lw_g (lw_at lw_m2 66 rfl) rfl
theorem q410 : (Jvm.Cond.fieldLink "FastPlane$Reader" (17 : Nat) "FastPlane$Reader" "word" "Ljava/lang/String;") ∈ lw_all := lw_g (lw_at lw_m2 67 rfl) rfl
theorem q411 : (Jvm.Cond.fieldLink "FastPlane$MachineReader" (91 : Nat) "FastPlane$MachineReader" "word" "Ljava/lang/String;") ∈ lw_all := lw_g (lw_at lw_m2 68 rfl) rfl
theorem q412 : (Jvm.Cond.sameField "FastPlane$MachineReader" "FastPlane$Reader" "word" "Ljava/lang/String;") ∈ lw_all := lw_g (lw_at lw_m2 69 rfl) rfl
theorem q413 : (Jvm.Cond.fieldLink "FastPlane$TreatyReader" (143 : Nat) "FastPlane$TreatyReader" "word" "Ljava/lang/String;") ∈ lw_all := lw_g (lw_at lw_m2 70 rfl) rfl
theorem q414 : (Jvm.Cond.sameField "FastPlane$TreatyReader" "FastPlane$Reader" "word" "Ljava/lang/String;") ∈ lw_all := lw_g (lw_at lw_m2 71 rfl) rfl
theorem q415 : (Jvm.Cond.fieldLink "FastPlane$Reader" (3 : Nat) "FastPlane$Reader" "this$0" "LFastPlane;") ∈ lw_all := lw_g (lw_at lw_m2 72 rfl) rfl
theorem q435 : (Jvm.Cond.methodLink "FastPlane" (144 : Nat) ({ cls := "FastPlane$MachineReader", name := "text", desc := "()LFastPlane$Machine;" } : Jvm.MethodName)) ∈ lw_all := lw_g (lw_at lw_m2 92 rfl) rfl
theorem q436 : (Jvm.Cond.instanceMethod ({ cls := "FastPlane$MachineReader", name := "text", desc := "()LFastPlane$Machine;" } : Jvm.MethodName)) ∈ lw_all := lw_g (lw_at lw_m2 93 rfl) rfl
theorem q437 : (Jvm.Cond.selects "FastPlane$MachineReader" ({ cls := "FastPlane$MachineReader", name := "text", desc := "()LFastPlane$Machine;" } : Jvm.MethodName) ({ cls := "FastPlane$MachineReader", name := "text", desc := "()LFastPlane$Machine;" } : Jvm.MethodName)) ∈ lw_all := lw_g (lw_at lw_m2 94 rfl) rfl
theorem q438 : (Jvm.Cond.code ({ cls := "FastPlane$MachineReader", name := "text", desc := "()LFastPlane$Machine;" } : Jvm.MethodName) prog_11_method_2_code (1 : Nat) (Option.some (Jvm.ClassFile.FieldType.object "FastPlane$Machine"))) ∈ lw_all := lw_g (lw_at lw_m2 95 rfl) rfl
theorem q439 : (Jvm.Cond.methodLink "FastPlane$MachineReader" (24 : Nat) ({ cls := "FastPlane$MachineReader", name := "next", desc := "()V" } : Jvm.MethodName)) ∈ lw_all := lw_g (lw_at lw_m2 96 rfl) rfl
theorem q440 : (Jvm.Cond.sameMethod "FastPlane$MachineReader" "FastPlane$Reader" "next" "()V") ∈ lw_all := lw_g (lw_at lw_m2 97 rfl) rfl
theorem q441 : (Jvm.Cond.declares ({ cls := "FastPlane$Reader", name := "next", desc := "()V" } : Jvm.MethodName)) ∈ lw_tbl := lw_at lw_m2 98 rfl
theorem u441 : (Jvm.Cond.declares ({ cls := "FastPlane$Reader", name := "next", desc := "()V" } : Jvm.MethodName)) ∈ lw_nw := List.mem_filter.mpr ⟨q441, rfl⟩
theorem q442 : (Jvm.Cond.selects "FastPlane$MachineReader" ({ cls := "FastPlane$MachineReader", name := "next", desc := "()V" } : Jvm.MethodName) ({ cls := "FastPlane$Reader", name := "next", desc := "()V" } : Jvm.MethodName)) ∈ lw_all := lw_g (lw_at lw_m2 99 rfl) rfl
theorem q443 : (Jvm.Cond.instanceMethod ({ cls := "FastPlane$Reader", name := "next", desc := "()V" } : Jvm.MethodName)) ∈ lw_all := lw_g (lw_at lw_m2 100 rfl) rfl
theorem q444 : (Jvm.Cond.code ({ cls := "FastPlane$Reader", name := "next", desc := "()V" } : Jvm.MethodName) prog_17_method_5_code (4 : Nat) (Option.none : Option Jvm.ClassFile.FieldType)) ∈ lw_all := lw_g (lw_at lw_m2 101 rfl) rfl
theorem q445 : (Jvm.Cond.methodLink "FastPlane$Reader" (32 : Nat) ({ cls := "FastPlane$Reader", name := "here", desc := "(I)I" } : Jvm.MethodName)) ∈ lw_all := lw_g (lw_at lw_m2 102 rfl) rfl
theorem q446 : (Jvm.Cond.privateMethod ({ cls := "FastPlane$Reader", name := "here", desc := "(I)I" } : Jvm.MethodName)) ∈ lw_tbl := lw_at lw_m2 103 rfl
theorem u446 : (Jvm.Cond.privateMethod ({ cls := "FastPlane$Reader", name := "here", desc := "(I)I" } : Jvm.MethodName)) ∈ lw_nw := List.mem_filter.mpr ⟨q446, rfl⟩
theorem q447 : (Jvm.Cond.instanceMethod ({ cls := "FastPlane$Reader", name := "here", desc := "(I)I" } : Jvm.MethodName)) ∈ lw_all := lw_g (lw_at lw_m2 104 rfl) rfl
theorem q449 : (Jvm.Cond.code ({ cls := "FastPlane$Reader", name := "here", desc := "(I)I" } : Jvm.MethodName) prog_17_method_2_code (2 : Nat) (Option.some Jvm.ClassFile.FieldType.int)) ∈ lw_all := lw_g (lw_at lw_m2 106 rfl) rfl
theorem q450 : (Jvm.Cond.methodLink "FastPlane$Reader" (42 : Nat) ({ cls := "FastPlane$Reader", name := "isLetter", desc := "(I)Z" } : Jvm.MethodName)) ∈ lw_all := lw_g (lw_at lw_m2 107 rfl) rfl
theorem q451 : (Jvm.Cond.privateMethod ({ cls := "FastPlane$Reader", name := "isLetter", desc := "(I)Z" } : Jvm.MethodName)) ∈ lw_tbl := lw_at lw_m2 108 rfl
theorem u451 : (Jvm.Cond.privateMethod ({ cls := "FastPlane$Reader", name := "isLetter", desc := "(I)Z" } : Jvm.MethodName)) ∈ lw_nw := List.mem_filter.mpr ⟨q451, rfl⟩
theorem q452 : (Jvm.Cond.instanceMethod ({ cls := "FastPlane$Reader", name := "isLetter", desc := "(I)Z" } : Jvm.MethodName)) ∈ lw_all := lw_g (lw_at lw_m2 109 rfl) rfl
theorem q453 : (Jvm.Cond.code ({ cls := "FastPlane$Reader", name := "isLetter", desc := "(I)Z" } : Jvm.MethodName) prog_17_method_3_code (2 : Nat) (Option.some Jvm.ClassFile.FieldType.boolean)) ∈ lw_all := lw_g (lw_at lw_m2 110 rfl) rfl
theorem q454 : (Jvm.Cond.classLink "FastPlane$Reader" (46 : Nat) "java/lang/StringBuilder") ∈ lw_all := lw_g (lw_at lw_m2 111 rfl) rfl
theorem q455 : (Jvm.Cond.instantiable "java/lang/StringBuilder" (4 : Nat)) ∈ lw_all := lw_g (lw_at lw_m2 112 rfl) rfl
theorem q456 : (Jvm.Cond.methodLink "FastPlane$Reader" (48 : Nat) ({ cls := "java/lang/StringBuilder", name := "<init>", desc := "(I)V" } : Jvm.MethodName)) ∈ lw_all := lw_g (lw_at lw_m2 113 rfl) rfl
theorem q457 : (Jvm.Cond.instanceMethod ({ cls := "java/lang/StringBuilder", name := "<init>", desc := "(I)V" } : Jvm.MethodName)) ∈ lw_all := lw_g (lw_at lw_m2 114 rfl) rfl
theorem q458 : (Jvm.Cond.code ({ cls := "java/lang/StringBuilder", name := "<init>", desc := "(I)V" } : Jvm.MethodName) prog_39_method_2_code (2 : Nat) (Option.none : Option Jvm.ClassFile.FieldType)) ∈ lw_all := lw_g (lw_at lw_m2 115 rfl) rfl
theorem q459 : (Jvm.Cond.methodLink "java/lang/StringBuilder" (1 : Nat) ({ cls := "java/lang/AbstractStringBuilder", name := "<init>", desc := "(I)V" } : Jvm.MethodName)) ∈ lw_all := lw_g (lw_at lw_m2 116 rfl) rfl
theorem q460 : (Jvm.Cond.instanceMethod ({ cls := "java/lang/AbstractStringBuilder", name := "<init>", desc := "(I)V" } : Jvm.MethodName)) ∈ lw_all := lw_g (lw_at lw_m2 117 rfl) rfl
theorem q461 : (Jvm.Cond.code ({ cls := "java/lang/AbstractStringBuilder", name := "<init>", desc := "(I)V" } : Jvm.MethodName) prog_26_method_2_code (2 : Nat) (Option.none : Option Jvm.ClassFile.FieldType)) ∈ lw_all := lw_g (lw_at lw_m2 118 rfl) rfl
theorem q462 : (Jvm.Cond.methodLink "java/lang/AbstractStringBuilder" (3 : Nat) ({ cls := "java/lang/Object", name := "<init>", desc := "()V" } : Jvm.MethodName)) ∈ lw_all := lw_g (lw_at lw_m2 119 rfl) rfl
theorem q463 : (Jvm.Cond.fieldLink "java/lang/AbstractStringBuilder" (18 : Nat) "java/lang/String" "COMPACT_STRINGS" "Z") ∈ lw_all := lw_g (lw_at lw_m2 120 rfl) rfl
theorem q472 : (Jvm.Cond.fieldLink "java/lang/AbstractStringBuilder" (15 : Nat) "java/lang/AbstractStringBuilder" "value" "[B") ∈ lw_all := lw_g (lw_at lw_m2 129 rfl) rfl
theorem q473 : (Jvm.Cond.fieldLink "java/lang/AbstractStringBuilder" (22 : Nat) "java/lang/AbstractStringBuilder" "coder" "B") ∈ lw_all := lw_g (lw_at lw_m2 130 rfl) rfl
theorem q474 : (Jvm.Cond.fieldLink "java/lang/String" (1048 : Nat) "java/lang/AbstractStringBuilder" "maybeLatin1" "Z") ∈ lw_all := lw_g (lw_at lw_m2 131 rfl) rfl
theorem q475 : (Jvm.Cond.fieldLink "java/lang/AbstractStringBuilder" (79 : Nat) "java/lang/AbstractStringBuilder" "count" "I") ∈ lw_all := lw_g (lw_at lw_m2 132 rfl) rfl
theorem q484 : (Jvm.Cond.superclass "java/lang/StringBuilder" "java/lang/AbstractStringBuilder") ∈ lw_all := lw_g (lw_at lw_m2 141 rfl) rfl
theorem q485 : (Jvm.Cond.methodLink "FastPlane$Reader" (51 : Nat) ({ cls := "java/lang/StringBuilder", name := "append", desc := "(C)Ljava/lang/StringBuilder;" } : Jvm.MethodName)) ∈ lw_all := lw_g (lw_at lw_m2 142 rfl) rfl
theorem q486 : (Jvm.Cond.instanceMethod ({ cls := "java/lang/StringBuilder", name := "append", desc := "(C)Ljava/lang/StringBuilder;" } : Jvm.MethodName)) ∈ lw_all := lw_g (lw_at lw_m2 143 rfl) rfl
theorem q487 : (Jvm.Cond.selects "java/lang/StringBuilder" ({ cls := "java/lang/StringBuilder", name := "append", desc := "(C)Ljava/lang/StringBuilder;" } : Jvm.MethodName) ({ cls := "java/lang/StringBuilder", name := "append", desc := "(C)Ljava/lang/StringBuilder;" } : Jvm.MethodName)) ∈ lw_all := lw_g (lw_at lw_m2 144 rfl) rfl
theorem q488 : (Jvm.Cond.code ({ cls := "java/lang/StringBuilder", name := "append", desc := "(C)Ljava/lang/StringBuilder;" } : Jvm.MethodName) prog_39_method_14_code (2 : Nat) (Option.some (Jvm.ClassFile.FieldType.object "java/lang/StringBuilder"))) ∈ lw_all := lw_g (lw_at lw_m2 145 rfl) rfl
theorem q489 : (Jvm.Cond.methodLink "java/lang/StringBuilder" (50 : Nat) ({ cls := "java/lang/AbstractStringBuilder", name := "append", desc := "(C)Ljava/lang/AbstractStringBuilder;" } : Jvm.MethodName)) ∈ lw_all := lw_g (lw_at lw_m2 146 rfl) rfl
theorem q490 : (Jvm.Cond.instanceMethod ({ cls := "java/lang/AbstractStringBuilder", name := "append", desc := "(C)Ljava/lang/AbstractStringBuilder;" } : Jvm.MethodName)) ∈ lw_all := lw_g (lw_at lw_m2 147 rfl) rfl
theorem q491 : (Jvm.Cond.code ({ cls := "java/lang/AbstractStringBuilder", name := "append", desc := "(C)Ljava/lang/AbstractStringBuilder;" } : Jvm.MethodName) prog_26_method_31_code (2 : Nat) (Option.some (Jvm.ClassFile.FieldType.object "java/lang/AbstractStringBuilder"))) ∈ lw_all := lw_g (lw_at lw_m2 148 rfl) rfl
theorem q492 : (Jvm.Cond.methodLink "java/lang/AbstractStringBuilder" (100 : Nat) ({ cls := "java/lang/AbstractStringBuilder", name := "ensureCapacityInternal", desc := "(I)V" } : Jvm.MethodName)) ∈ lw_all := lw_g (lw_at lw_m2 149 rfl) rfl
theorem q493 : (Jvm.Cond.privateMethod ({ cls := "java/lang/AbstractStringBuilder", name := "ensureCapacityInternal", desc := "(I)V" } : Jvm.MethodName)) ∈ lw_tbl := lw_at lw_m2 150 rfl
theorem u493 : (Jvm.Cond.privateMethod ({ cls := "java/lang/AbstractStringBuilder", name := "ensureCapacityInternal", desc := "(I)V" } : Jvm.MethodName)) ∈ lw_nw := List.mem_filter.mpr ⟨q493, rfl⟩
theorem q494 : (Jvm.Cond.instanceMethod ({ cls := "java/lang/AbstractStringBuilder", name := "ensureCapacityInternal", desc := "(I)V" } : Jvm.MethodName)) ∈ lw_all := lw_g (lw_at lw_m2 151 rfl) rfl
theorem q495 : (Jvm.Cond.code ({ cls := "java/lang/AbstractStringBuilder", name := "ensureCapacityInternal", desc := "(I)V" } : Jvm.MethodName) prog_26_method_9_code (3 : Nat) (Option.none : Option Jvm.ClassFile.FieldType)) ∈ lw_all := lw_g (lw_at lw_m2 152 rfl) rfl
theorem q501 : (Jvm.Cond.static ({ cls := "jdk/internal/util/ArraysSupport", name := "newLength", desc := "(III)I" } : Jvm.MethodName)) ∈ lw_all := lw_g (lw_at lw_m2 158 rfl) rfl
theorem q502 : (Jvm.Cond.code ({ cls := "jdk/internal/util/ArraysSupport", name := "newLength", desc := "(III)I" } : Jvm.MethodName) prog_57_method_27_code (4 : Nat) (Option.some Jvm.ClassFile.FieldType.int)) ∈ lw_all := lw_g (lw_at lw_m2 159 rfl) rfl
theorem q503 : (Jvm.Cond.methodLink "jdk/internal/util/ArraysSupport" (194 : Nat) ({ cls := "java/lang/Math", name := "max", desc := "(II)I" } : Jvm.MethodName)) ∈ lw_all := lw_g (lw_at lw_m2 160 rfl) rfl
theorem q504 : (Jvm.Cond.static ({ cls := "java/lang/Math", name := "max", desc := "(II)I" } : Jvm.MethodName)) ∈ lw_all := lw_g (lw_at lw_m2 161 rfl) rfl
theorem q505 : (Jvm.Cond.code ({ cls := "java/lang/Math", name := "max", desc := "(II)I" } : Jvm.MethodName) prog_36_method_65_code (2 : Nat) (Option.some Jvm.ClassFile.FieldType.int)) ∈ lw_all := lw_g (lw_at lw_m2 162 rfl) rfl
theorem q506 : (Jvm.Cond.constant "jdk/internal/util/ArraysSupport" (200 : Nat) (2147483639 : Int32)) ∈ lw_all := lw_g (lw_at lw_m2 163 rfl) rfl
theorem q514 : (Jvm.Cond.methodLink "java/util/Arrays" (310 : Nat) ({ cls := "[B", name := "clone", desc := "()Ljava/lang/Object;" } : Jvm.MethodName)) ∈ lw_all := lw_g (lw_at lw_m2 171 rfl) rfl
theorem q520 : (Jvm.Cond.classLink "java/util/Arrays" (311 : Nat) "[B") ∈ lw_all := lw_g (lw_at lw_m2 177 rfl) rfl
theorem q521 : (Jvm.Cond.methodLink "java/util/Arrays" (304 : Nat) ({ cls := "java/lang/Math", name := "min", desc := "(II)I" } : Jvm.MethodName)) ∈ lw_all := lw_g (lw_at lw_m2 178 rfl) rfl
theorem q522 : (Jvm.Cond.static ({ cls := "java/lang/Math", name := "min", desc := "(II)I" } : Jvm.MethodName)) ∈ lw_all := lw_g (lw_at lw_m2 179 rfl) rfl
theorem q523 : (Jvm.Cond.code ({ cls := "java/lang/Math", name := "min", desc := "(II)I" } : Jvm.MethodName) prog_36_method_69_code (2 : Nat) (Option.some Jvm.ClassFile.FieldType.int)) ∈ lw_all := lw_g (lw_at lw_m2 180 rfl) rfl
theorem q524 : (Jvm.Cond.methodLink "java/util/Arrays" (150 : Nat) ({ cls := "java/lang/System", name := "arraycopy", desc := "(Ljava/lang/Object;ILjava/lang/Object;II)V" } : Jvm.MethodName)) ∈ lw_all := lw_g (lw_at lw_m2 181 rfl) rfl
theorem q527 : (Jvm.Cond.methodLink "java/lang/AbstractStringBuilder" (83 : Nat) ({ cls := "java/lang/AbstractStringBuilder", name := "isLatin1", desc := "()Z" } : Jvm.MethodName)) ∈ lw_all := lw_g (lw_at lw_m2 184 rfl) rfl
theorem q528 : (Jvm.Cond.instanceMethod ({ cls := "java/lang/AbstractStringBuilder", name := "isLatin1", desc := "()Z" } : Jvm.MethodName)) ∈ lw_all := lw_g (lw_at lw_m2 185 rfl) rfl
theorem q530 : (Jvm.Cond.selects "java/lang/StringBuilder" ({ cls := "java/lang/AbstractStringBuilder", name := "isLatin1", desc := "()Z" } : Jvm.MethodName) ({ cls := "java/lang/AbstractStringBuilder", name := "isLatin1", desc := "()Z" } : Jvm.MethodName)) ∈ lw_all := lw_g (lw_at lw_m2 187 rfl) rfl
theorem q531 : (Jvm.Cond.code ({ cls := "java/lang/AbstractStringBuilder", name := "isLatin1", desc := "()Z" } : Jvm.MethodName) prog_26_method_68_code (1 : Nat) (Option.some Jvm.ClassFile.FieldType.boolean)) ∈ lw_all := lw_g (lw_at lw_m2 188 rfl) rfl
theorem q532 : (Jvm.Cond.methodLink "java/lang/AbstractStringBuilder" (191 : Nat) ({ cls := "java/lang/StringLatin1", name := "canEncode", desc := "(C)Z" } : Jvm.MethodName)) ∈ lw_all := lw_g (lw_at lw_m2 189 rfl) rfl
theorem q533 : (Jvm.Cond.static ({ cls := "java/lang/StringLatin1", name := "canEncode", desc := "(C)Z" } : Jvm.MethodName)) ∈ lw_all := lw_g (lw_at lw_m2 190 rfl) rfl
theorem q534 : (Jvm.Cond.code ({ cls := "java/lang/StringLatin1", name := "canEncode", desc := "(C)Z" } : Jvm.MethodName) prog_40_method_3_code (1 : Nat) (Option.some Jvm.ClassFile.FieldType.boolean)) ∈ lw_all := lw_g (lw_at lw_m2 191 rfl) rfl
theorem q554 : (Jvm.Cond.fieldLink "java/lang/String" (1053 : Nat) "jdk/internal/util/Preconditions" "SIOOBE_FORMATTER" "Ljava/util/function/BiFunction;") ∈ lw_all := lw_g (lw_at lw_m2 211 rfl) rfl
theorem q575 : (Jvm.Cond.static ({ cls := "java/lang/String", name := "checkIndex", desc := "(II)V" } : Jvm.MethodName)) ∈ lw_all := lw_g (lw_at lw_m2 232 rfl) rfl
theorem q576 : (Jvm.Cond.code ({ cls := "java/lang/String", name := "checkIndex", desc := "(II)V" } : Jvm.MethodName) prog_38_method_155_code (2 : Nat) (Option.none : Option Jvm.ClassFile.FieldType)) ∈ lw_all := lw_g (lw_at lw_m2 233 rfl) rfl
theorem q577 : (Jvm.Cond.methodLink "java/lang/String" (1059 : Nat) ({ cls := "jdk/internal/util/Preconditions", name := "checkIndex", desc := "(IILjava/util/function/BiFunction;)I" } : Jvm.MethodName)) ∈ lw_all := lw_g (lw_at lw_m2 234 rfl) rfl
theorem q578 : (Jvm.Cond.static ({ cls := "jdk/internal/util/Preconditions", name := "checkIndex", desc := "(IILjava/util/function/BiFunction;)I" } : Jvm.MethodName)) ∈ lw_all := lw_g (lw_at lw_m2 235 rfl) rfl
theorem q579 : (Jvm.Cond.code ({ cls := "jdk/internal/util/Preconditions", name := "checkIndex", desc := "(IILjava/util/function/BiFunction;)I" } : Jvm.MethodName) prog_58_method_11_code (3 : Nat) (Option.some Jvm.ClassFile.FieldType.int)) ∈ lw_all := lw_g (lw_at lw_m2 236 rfl) rfl
theorem q580 : (Jvm.Cond.methodLink "FastPlane$Reader" (55 : Nat) ({ cls := "java/lang/StringBuilder", name := "toString", desc := "()Ljava/lang/String;" } : Jvm.MethodName)) ∈ lw_all := lw_g (lw_at lw_m2 237 rfl) rfl
theorem q581 : (Jvm.Cond.instanceMethod ({ cls := "java/lang/StringBuilder", name := "toString", desc := "()Ljava/lang/String;" } : Jvm.MethodName)) ∈ lw_all := lw_g (lw_at lw_m2 238 rfl) rfl
theorem q582 : (Jvm.Cond.selects "java/lang/StringBuilder" ({ cls := "java/lang/StringBuilder", name := "toString", desc := "()Ljava/lang/String;" } : Jvm.MethodName) ({ cls := "java/lang/StringBuilder", name := "toString", desc := "()Ljava/lang/String;" } : Jvm.MethodName)) ∈ lw_all := lw_g (lw_at lw_m2 239 rfl) rfl
theorem q583 : (Jvm.Cond.code ({ cls := "java/lang/StringBuilder", name := "toString", desc := "()Ljava/lang/String;" } : Jvm.MethodName) prog_39_method_42_code (1 : Nat) (Option.some (Jvm.ClassFile.FieldType.object "java/lang/String"))) ∈ lw_all := lw_g (lw_at lw_m3 0 rfl) rfl
theorem q584 : (Jvm.Cond.classLink "java/lang/StringBuilder" (18 : Nat) "java/lang/String") ∈ lw_all := lw_g (lw_at lw_m3 1 rfl) rfl
theorem q585 : (Jvm.Cond.instantiable "java/lang/String" (4 : Nat)) ∈ lw_all := lw_g (lw_at lw_m3 2 rfl) rfl
theorem q586 : (Jvm.Cond.methodLink "java/lang/StringBuilder" (137 : Nat) ({ cls := "java/lang/String", name := "<init>", desc := "(Ljava/lang/StringBuilder;)V" } : Jvm.MethodName)) ∈ lw_all := lw_g (lw_at lw_m3 3 rfl) rfl
theorem q587 : (Jvm.Cond.instanceMethod ({ cls := "java/lang/String", name := "<init>", desc := "(Ljava/lang/StringBuilder;)V" } : Jvm.MethodName)) ∈ lw_all := lw_g (lw_at lw_m3 4 rfl) rfl
theorem q588 : (Jvm.Cond.code ({ cls := "java/lang/String", name := "<init>", desc := "(Ljava/lang/StringBuilder;)V" } : Jvm.MethodName) prog_38_method_53_code (2 : Nat) (Option.none : Option Jvm.ClassFile.FieldType)) ∈ lw_all := lw_g (lw_at lw_m3 5 rfl) rfl
theorem q589 : (Jvm.Cond.methodLink "java/lang/String" (489 : Nat) ({ cls := "java/lang/String", name := "<init>", desc := "(Ljava/lang/AbstractStringBuilder;Ljava/lang/Void;)V" } : Jvm.MethodName)) ∈ lw_all := lw_g (lw_at lw_m3 6 rfl) rfl
theorem q590 : (Jvm.Cond.instanceMethod ({ cls := "java/lang/String", name := "<init>", desc := "(Ljava/lang/AbstractStringBuilder;Ljava/lang/Void;)V" } : Jvm.MethodName)) ∈ lw_all := lw_g (lw_at lw_m3 7 rfl) rfl
theorem q591 : (Jvm.Cond.code ({ cls := "java/lang/String", name := "<init>", desc := "(Ljava/lang/AbstractStringBuilder;Ljava/lang/Void;)V" } : Jvm.MethodName) prog_38_method_150_code (5 : Nat) (Option.none : Option Jvm.ClassFile.FieldType)) ∈ lw_all := lw_g (lw_at lw_m3 8 rfl) rfl
theorem q592 : (Jvm.Cond.methodLink "java/lang/String" (1 : Nat) ({ cls := "java/lang/Object", name := "<init>", desc := "()V" } : Jvm.MethodName)) ∈ lw_all := lw_g (lw_at lw_m3 9 rfl) rfl
theorem q593 : (Jvm.Cond.methodLink "java/lang/String" (552 : Nat) ({ cls := "java/lang/AbstractStringBuilder", name := "getValue", desc := "()[B" } : Jvm.MethodName)) ∈ lw_all := lw_g (lw_at lw_m3 10 rfl) rfl
theorem q594 : (Jvm.Cond.instanceMethod ({ cls := "java/lang/AbstractStringBuilder", name := "getValue", desc := "()[B" } : Jvm.MethodName)) ∈ lw_all := lw_g (lw_at lw_m3 11 rfl) rfl
theorem q596 : (Jvm.Cond.selects "java/lang/StringBuilder" ({ cls := "java/lang/AbstractStringBuilder", name := "getValue", desc := "()[B" } : Jvm.MethodName) ({ cls := "java/lang/AbstractStringBuilder", name := "getValue", desc := "()[B" } : Jvm.MethodName)) ∈ lw_all := lw_g (lw_at lw_m3 13 rfl) rfl
theorem q597 : (Jvm.Cond.code ({ cls := "java/lang/AbstractStringBuilder", name := "getValue", desc := "()[B" } : Jvm.MethodName) prog_26_method_64_code (1 : Nat) (Option.some (Jvm.ClassFile.FieldType.array Jvm.ClassFile.FieldType.byte))) ∈ lw_all := lw_g (lw_at lw_m3 14 rfl) rfl
theorem q598 : (Jvm.Cond.methodLink "java/lang/String" (549 : Nat) ({ cls := "java/lang/AbstractStringBuilder", name := "length", desc := "()I" } : Jvm.MethodName)) ∈ lw_all := lw_g (lw_at lw_m3 15 rfl) rfl
theorem q599 : (Jvm.Cond.instanceMethod ({ cls := "java/lang/AbstractStringBuilder", name := "length", desc := "()I" } : Jvm.MethodName)) ∈ lw_all := lw_g (lw_at lw_m3 16 rfl) rfl
theorem q600 : (Jvm.Cond.sameMethod "java/lang/AbstractStringBuilder" "java/lang/AbstractStringBuilder" "length" "()I") ∈ lw_all := lw_g (lw_at lw_m3 17 rfl) rfl
theorem q601 : (Jvm.Cond.selects "java/lang/StringBuilder" ({ cls := "java/lang/AbstractStringBuilder", name := "length", desc := "()I" } : Jvm.MethodName) ({ cls := "java/lang/StringBuilder", name := "length", desc := "()I" } : Jvm.MethodName)) ∈ lw_all := lw_g (lw_at lw_m3 18 rfl) rfl
theorem q602 : (Jvm.Cond.instanceMethod ({ cls := "java/lang/StringBuilder", name := "length", desc := "()I" } : Jvm.MethodName)) ∈ lw_all := lw_g (lw_at lw_m3 19 rfl) rfl
theorem q603 : (Jvm.Cond.code ({ cls := "java/lang/StringBuilder", name := "length", desc := "()I" } : Jvm.MethodName) prog_39_method_93_code (1 : Nat) (Option.some Jvm.ClassFile.FieldType.int)) ∈ lw_all := lw_g (lw_at lw_m3 20 rfl) rfl
theorem q604 : (Jvm.Cond.methodLink "java/lang/StringBuilder" (343 : Nat) ({ cls := "java/lang/AbstractStringBuilder", name := "length", desc := "()I" } : Jvm.MethodName)) ∈ lw_all := lw_g (lw_at lw_m3 21 rfl) rfl
theorem q605 : (Jvm.Cond.code ({ cls := "java/lang/AbstractStringBuilder", name := "length", desc := "()I" } : Jvm.MethodName) prog_26_method_6_code (1 : Nat) (Option.some Jvm.ClassFile.FieldType.int)) ∈ lw_all := lw_g (lw_at lw_m3 22 rfl) rfl
theorem q606 : (Jvm.Cond.methodLink "java/lang/String" (1047 : Nat) ({ cls := "java/lang/AbstractStringBuilder", name := "isLatin1", desc := "()Z" } : Jvm.MethodName)) ∈ lw_all := lw_g (lw_at lw_m3 23 rfl) rfl
theorem q607 : (Jvm.Cond.methodLink "java/lang/String" (54 : Nat) ({ cls := "java/util/Arrays", name := "copyOfRange", desc := "([BII)[B" } : Jvm.MethodName)) ∈ lw_all := lw_g (lw_at lw_m3 24 rfl) rfl
theorem q608 : (Jvm.Cond.static ({ cls := "java/util/Arrays", name := "copyOfRange", desc := "([BII)[B" } : Jvm.MethodName)) ∈ lw_all := lw_g (lw_at lw_m3 25 rfl) rfl
theorem q609 : (Jvm.Cond.code ({ cls := "java/util/Arrays", name := "copyOfRange", desc := "([BII)[B" } : Jvm.MethodName) prog_50_method_132_code (3 : Nat) (Option.some (Jvm.ClassFile.FieldType.array Jvm.ClassFile.FieldType.byte))) ∈ lw_all := lw_g (lw_at lw_m3 26 rfl) rfl
theorem q610 : (Jvm.Cond.methodLink "java/util/Arrays" (339 : Nat) ({ cls := "java/util/Arrays", name := "copyOfRangeByte", desc := "([BII)[B" } : Jvm.MethodName)) ∈ lw_all := lw_g (lw_at lw_m3 27 rfl) rfl
theorem q611 : (Jvm.Cond.static ({ cls := "java/util/Arrays", name := "copyOfRangeByte", desc := "([BII)[B" } : Jvm.MethodName)) ∈ lw_all := lw_g (lw_at lw_m3 28 rfl) rfl
theorem q612 : (Jvm.Cond.code ({ cls := "java/util/Arrays", name := "copyOfRangeByte", desc := "([BII)[B" } : Jvm.MethodName) prog_50_method_133_code (5 : Nat) (Option.some (Jvm.ClassFile.FieldType.array Jvm.ClassFile.FieldType.byte))) ∈ lw_all := lw_g (lw_at lw_m3 29 rfl) rfl
theorem q613 : (Jvm.Cond.methodLink "java/util/Arrays" (343 : Nat) ({ cls := "java/util/Arrays", name := "checkLength", desc := "(II)V" } : Jvm.MethodName)) ∈ lw_all := lw_g (lw_at lw_m3 30 rfl) rfl
theorem q614 : (Jvm.Cond.static ({ cls := "java/util/Arrays", name := "checkLength", desc := "(II)V" } : Jvm.MethodName)) ∈ lw_all := lw_g (lw_at lw_m3 31 rfl) rfl
theorem q615 : (Jvm.Cond.code ({ cls := "java/util/Arrays", name := "checkLength", desc := "(II)V" } : Jvm.MethodName) prog_50_method_131_code (2 : Nat) (Option.none : Option Jvm.ClassFile.FieldType)) ∈ lw_all := lw_g (lw_at lw_m3 32 rfl) rfl
theorem q616 : (Jvm.Cond.fieldLink "java/lang/String" (38 : Nat) "java/lang/String" "COMPACT_STRINGS" "Z") ∈ lw_all := lw_g (lw_at lw_m3 33 rfl) rfl
theorem q630 : (Jvm.Cond.fieldLink "java/lang/String" (9 : Nat) "java/lang/String" "value" "[B") ∈ lw_all := lw_g (lw_at lw_m3 47 rfl) rfl
theorem q631 : (Jvm.Cond.fieldLink "java/lang/String" (15 : Nat) "java/lang/String" "coder" "B") ∈ lw_all := lw_g (lw_at lw_m3 48 rfl) rfl
theorem q632 : (Jvm.Cond.fieldLink "java/lang/String" (19 : Nat) "java/lang/String" "hash" "I") ∈ lw_all := lw_g (lw_at lw_m3 49 rfl) rfl
theorem q633 : (Jvm.Cond.fieldLink "java/lang/String" (23 : Nat) "java/lang/String" "hashIsZero" "Z") ∈ lw_all := lw_g (lw_at lw_m3 50 rfl) rfl
theorem q643 : (Jvm.Cond.methodLink "FastPlane$Reader" (59 : Nat) ({ cls := "FastPlane$Reader", name := "isDigit", desc := "(I)Z" } : Jvm.MethodName)) ∈ lw_all := lw_g (lw_at lw_m3 60 rfl) rfl
theorem q644 : (Jvm.Cond.privateMethod ({ cls := "FastPlane$Reader", name := "isDigit", desc := "(I)Z" } : Jvm.MethodName)) ∈ lw_tbl := lw_at lw_m3 61 rfl
theorem u644 : (Jvm.Cond.privateMethod ({ cls := "FastPlane$Reader", name := "isDigit", desc := "(I)Z" } : Jvm.MethodName)) ∈ lw_nw := List.mem_filter.mpr ⟨q644, rfl⟩
theorem q645 : (Jvm.Cond.instanceMethod ({ cls := "FastPlane$Reader", name := "isDigit", desc := "(I)Z" } : Jvm.MethodName)) ∈ lw_all := lw_g (lw_at lw_m3 62 rfl) rfl
theorem q646 : (Jvm.Cond.code ({ cls := "FastPlane$Reader", name := "isDigit", desc := "(I)Z" } : Jvm.MethodName) prog_17_method_4_code (2 : Nat) (Option.some Jvm.ClassFile.FieldType.boolean)) ∈ lw_all := lw_g (lw_at lw_m3 63 rfl) rfl
theorem q648 : (Jvm.Cond.methodLink "FastPlane$Reader" (67 : Nat) ({ cls := "java/lang/String", name := "indexOf", desc := "(I)I" } : Jvm.MethodName)) ∈ lw_all := lw_g (lw_at lw_m3 65 rfl) rfl
theorem q649 : (Jvm.Cond.instanceMethod ({ cls := "java/lang/String", name := "indexOf", desc := "(I)I" } : Jvm.MethodName)) ∈ lw_all := lw_g (lw_at lw_m3 66 rfl) rfl
theorem q650 : (Jvm.Cond.selects "java/lang/String" ({ cls := "java/lang/String", name := "indexOf", desc := "(I)I" } : Jvm.MethodName) ({ cls := "java/lang/String", name := "indexOf", desc := "(I)I" } : Jvm.MethodName)) ∈ lw_all := lw_g (lw_at lw_m3 67 rfl) rfl
theorem q651 : (Jvm.Cond.code ({ cls := "java/lang/String", name := "indexOf", desc := "(I)I" } : Jvm.MethodName) prog_38_method_79_code (2 : Nat) (Option.some Jvm.ClassFile.FieldType.int)) ∈ lw_all := lw_g (lw_at lw_m3 68 rfl) rfl
theorem q652 : (Jvm.Cond.methodLink "java/lang/String" (633 : Nat) ({ cls := "java/lang/String", name := "indexOf", desc := "(II)I" } : Jvm.MethodName)) ∈ lw_all := lw_g (lw_at lw_m3 69 rfl) rfl
theorem q653 : (Jvm.Cond.instanceMethod ({ cls := "java/lang/String", name := "indexOf", desc := "(II)I" } : Jvm.MethodName)) ∈ lw_all := lw_g (lw_at lw_m3 70 rfl) rfl
theorem q654 : (Jvm.Cond.selects "java/lang/String" ({ cls := "java/lang/String", name := "indexOf", desc := "(II)I" } : Jvm.MethodName) ({ cls := "java/lang/String", name := "indexOf", desc := "(II)I" } : Jvm.MethodName)) ∈ lw_all := lw_g (lw_at lw_m3 71 rfl) rfl
theorem q655 : (Jvm.Cond.code ({ cls := "java/lang/String", name := "indexOf", desc := "(II)I" } : Jvm.MethodName) prog_38_method_80_code (3 : Nat) (Option.some Jvm.ClassFile.FieldType.int)) ∈ lw_all := lw_g (lw_at lw_m3 72 rfl) rfl
theorem q656 : (Jvm.Cond.methodLink "java/lang/String" (492 : Nat) ({ cls := "java/lang/String", name := "isLatin1", desc := "()Z" } : Jvm.MethodName)) ∈ lw_all := lw_g (lw_at lw_m3 73 rfl) rfl
theorem q657 : (Jvm.Cond.instanceMethod ({ cls := "java/lang/String", name := "isLatin1", desc := "()Z" } : Jvm.MethodName)) ∈ lw_all := lw_g (lw_at lw_m3 74 rfl) rfl
theorem q658 : (Jvm.Cond.selects "java/lang/String" ({ cls := "java/lang/String", name := "isLatin1", desc := "()Z" } : Jvm.MethodName) ({ cls := "java/lang/String", name := "isLatin1", desc := "()Z" } : Jvm.MethodName)) ∈ lw_all := lw_g (lw_at lw_m3 75 rfl) rfl
theorem q659 : (Jvm.Cond.code ({ cls := "java/lang/String", name := "isLatin1", desc := "()Z" } : Jvm.MethodName) prog_38_method_154_code (1 : Nat) (Option.some Jvm.ClassFile.FieldType.boolean)) ∈ lw_all := lw_g (lw_at lw_m3 76 rfl) rfl
theorem q660 : (Jvm.Cond.methodLink "java/lang/String" (505 : Nat) ({ cls := "java/lang/String", name := "length", desc := "()I" } : Jvm.MethodName)) ∈ lw_all := lw_g (lw_at lw_m3 77 rfl) rfl
theorem q661 : (Jvm.Cond.instanceMethod ({ cls := "java/lang/String", name := "length", desc := "()I" } : Jvm.MethodName)) ∈ lw_all := lw_g (lw_at lw_m3 78 rfl) rfl
theorem q662 : (Jvm.Cond.selects "java/lang/String" ({ cls := "java/lang/String", name := "length", desc := "()I" } : Jvm.MethodName) ({ cls := "java/lang/String", name := "length", desc := "()I" } : Jvm.MethodName)) ∈ lw_all := lw_g (lw_at lw_m3 79 rfl) rfl
theorem q663 : (Jvm.Cond.code ({ cls := "java/lang/String", name := "length", desc := "()I" } : Jvm.MethodName) prog_38_method_54_code (1 : Nat) (Option.some Jvm.ClassFile.FieldType.int)) ∈ lw_all := lw_g (lw_at lw_m3 80 rfl) rfl
theorem q664 : (Jvm.Cond.methodLink "java/lang/String" (335 : Nat) ({ cls := "java/lang/String", name := "coder", desc := "()B" } : Jvm.MethodName)) ∈ lw_all := lw_g (lw_at lw_m3 81 rfl) rfl
theorem q665 : (Jvm.Cond.instanceMethod ({ cls := "java/lang/String", name := "coder", desc := "()B" } : Jvm.MethodName)) ∈ lw_all := lw_g (lw_at lw_m3 82 rfl) rfl
theorem q666 : (Jvm.Cond.selects "java/lang/String" ({ cls := "java/lang/String", name := "coder", desc := "()B" } : Jvm.MethodName) ({ cls := "java/lang/String", name := "coder", desc := "()B" } : Jvm.MethodName)) ∈ lw_all := lw_g (lw_at lw_m3 83 rfl) rfl
theorem q667 : (Jvm.Cond.code ({ cls := "java/lang/String", name := "coder", desc := "()B" } : Jvm.MethodName) prog_38_method_152_code (1 : Nat) (Option.some Jvm.ClassFile.FieldType.byte)) ∈ lw_all := lw_g (lw_at lw_m3 84 rfl) rfl
theorem q668 : (Jvm.Cond.methodLink "java/lang/String" (637 : Nat) ({ cls := "java/lang/StringLatin1", name := "indexOf", desc := "([BIII)I" } : Jvm.MethodName)) ∈ lw_all := lw_g (lw_at lw_m3 85 rfl) rfl
theorem q669 : (Jvm.Cond.static ({ cls := "java/lang/StringLatin1", name := "indexOf", desc := "([BIII)I" } : Jvm.MethodName)) ∈ lw_all := lw_g (lw_at lw_m3 86 rfl) rfl
theorem q670 : (Jvm.Cond.code ({ cls := "java/lang/StringLatin1", name := "indexOf", desc := "([BIII)I" } : Jvm.MethodName) prog_40_method_22_code (4 : Nat) (Option.some Jvm.ClassFile.FieldType.int)) ∈ lw_all := lw_g (lw_at lw_m3 87 rfl) rfl
theorem q671 : (Jvm.Cond.methodLink "java/lang/StringLatin1" (88 : Nat) ({ cls := "java/lang/StringLatin1", name := "canEncode", desc := "(I)Z" } : Jvm.MethodName)) ∈ lw_all := lw_g (lw_at lw_m3 88 rfl) rfl
theorem q672 : (Jvm.Cond.static ({ cls := "java/lang/StringLatin1", name := "canEncode", desc := "(I)Z" } : Jvm.MethodName)) ∈ lw_all := lw_g (lw_at lw_m3 89 rfl) rfl
theorem q673 : (Jvm.Cond.code ({ cls := "java/lang/StringLatin1", name := "canEncode", desc := "(I)Z" } : Jvm.MethodName) prog_40_method_4_code (1 : Nat) (Option.some Jvm.ClassFile.FieldType.boolean)) ∈ lw_all := lw_g (lw_at lw_m3 90 rfl) rfl
theorem q674 : (Jvm.Cond.methodLink "java/lang/StringLatin1" (92 : Nat) ({ cls := "java/lang/Math", name := "max", desc := "(II)I" } : Jvm.MethodName)) ∈ lw_all := lw_g (lw_at lw_m3 91 rfl) rfl
theorem q675 : (Jvm.Cond.methodLink "java/lang/StringLatin1" (38 : Nat) ({ cls := "java/lang/Math", name := "min", desc := "(II)I" } : Jvm.MethodName)) ∈ lw_all := lw_g (lw_at lw_m3 92 rfl) rfl
theorem q676 : (Jvm.Cond.methodLink "java/lang/StringLatin1" (95 : Nat) ({ cls := "java/lang/StringLatin1", name := "indexOfChar", desc := "([BIII)I" } : Jvm.MethodName)) ∈ lw_all := lw_g (lw_at lw_m3 93 rfl) rfl
theorem q677 : (Jvm.Cond.static ({ cls := "java/lang/StringLatin1", name := "indexOfChar", desc := "([BIII)I" } : Jvm.MethodName)) ∈ lw_all := lw_g (lw_at lw_m3 94 rfl) rfl
theorem q678 : (Jvm.Cond.code ({ cls := "java/lang/StringLatin1", name := "indexOfChar", desc := "([BIII)I" } : Jvm.MethodName) prog_40_method_23_code (6 : Nat) (Option.some Jvm.ClassFile.FieldType.int)) ∈ lw_all := lw_g (lw_at lw_m3 95 rfl) rfl
theorem q715 : (Jvm.Cond.methodLink "FastPlane$MachineReader" (33 : Nat) ({ cls := "FastPlane$MachineReader", name := "is", desc := "(Ljava/lang/String;)Z" } : Jvm.MethodName)) ∈ lw_all := lw_g (lw_at lw_m3 132 rfl) rfl
theorem q716 : (Jvm.Cond.sameMethod "FastPlane$MachineReader" "FastPlane$Reader" "is" "(Ljava/lang/String;)Z") ∈ lw_all := lw_g (lw_at lw_m3 133 rfl) rfl
theorem q717 : (Jvm.Cond.declares ({ cls := "FastPlane$Reader", name := "is", desc := "(Ljava/lang/String;)Z" } : Jvm.MethodName)) ∈ lw_tbl := lw_at lw_m3 134 rfl
theorem u717 : (Jvm.Cond.declares ({ cls := "FastPlane$Reader", name := "is", desc := "(Ljava/lang/String;)Z" } : Jvm.MethodName)) ∈ lw_nw := List.mem_filter.mpr ⟨q717, rfl⟩
theorem q718 : (Jvm.Cond.selects "FastPlane$MachineReader" ({ cls := "FastPlane$MachineReader", name := "is", desc := "(Ljava/lang/String;)Z" } : Jvm.MethodName) ({ cls := "FastPlane$Reader", name := "is", desc := "(Ljava/lang/String;)Z" } : Jvm.MethodName)) ∈ lw_all := lw_g (lw_at lw_m3 135 rfl) rfl
theorem q719 : (Jvm.Cond.instanceMethod ({ cls := "FastPlane$Reader", name := "is", desc := "(Ljava/lang/String;)Z" } : Jvm.MethodName)) ∈ lw_all := lw_g (lw_at lw_m3 136 rfl) rfl
theorem q720 : (Jvm.Cond.code ({ cls := "FastPlane$Reader", name := "is", desc := "(Ljava/lang/String;)Z" } : Jvm.MethodName) prog_17_method_7_code (2 : Nat) (Option.some Jvm.ClassFile.FieldType.boolean)) ∈ lw_all := lw_g (lw_at lw_m3 137 rfl) rfl
theorem q721 : (Jvm.Cond.methodLink "FastPlane$Reader" (77 : Nat) ({ cls := "java/lang/String", name := "equals", desc := "(Ljava/lang/Object;)Z" } : Jvm.MethodName)) ∈ lw_all := lw_g (lw_at lw_m3 138 rfl) rfl
theorem q722 : (Jvm.Cond.instanceMethod ({ cls := "java/lang/String", name := "equals", desc := "(Ljava/lang/Object;)Z" } : Jvm.MethodName)) ∈ lw_all := lw_g (lw_at lw_m3 139 rfl) rfl
theorem q723 : (Jvm.Cond.selects "java/lang/String" ({ cls := "java/lang/String", name := "equals", desc := "(Ljava/lang/Object;)Z" } : Jvm.MethodName) ({ cls := "java/lang/String", name := "equals", desc := "(Ljava/lang/Object;)Z" } : Jvm.MethodName)) ∈ lw_all := lw_g (lw_at lw_m3 140 rfl) rfl
theorem q724 : (Jvm.Cond.code ({ cls := "java/lang/String", name := "equals", desc := "(Ljava/lang/Object;)Z" } : Jvm.MethodName) prog_38_method_66_code (3 : Nat) (Option.some Jvm.ClassFile.FieldType.boolean)) ∈ lw_all := lw_g (lw_at lw_m3 141 rfl) rfl
theorem q725 : (Jvm.Cond.classLink "java/lang/String" (10 : Nat) "java/lang/String") ∈ lw_all := lw_g (lw_at lw_m3 142 rfl) rfl
theorem q726 : (Jvm.Cond.methodLink "java/lang/String" (541 : Nat) ({ cls := "java/lang/StringLatin1", name := "equals", desc := "([B[B)Z" } : Jvm.MethodName)) ∈ lw_all := lw_g (lw_at lw_m3 143 rfl) rfl
theorem q727 : (Jvm.Cond.static ({ cls := "java/lang/StringLatin1", name := "equals", desc := "([B[B)Z" } : Jvm.MethodName)) ∈ lw_all := lw_g (lw_at lw_m3 144 rfl) rfl
theorem q728 : (Jvm.Cond.code ({ cls := "java/lang/StringLatin1", name := "equals", desc := "([B[B)Z" } : Jvm.MethodName) prog_40_method_13_code (3 : Nat) (Option.some Jvm.ClassFile.FieldType.boolean)) ∈ lw_all := lw_g (lw_at lw_m3 145 rfl) rfl
theorem q729 : (Jvm.Cond.methodLink "FastPlane$MachineReader" (41 : Nat) ({ cls := "java/util/ArrayList", name := "size", desc := "()I" } : Jvm.MethodName)) ∈ lw_all := lw_g (lw_at lw_m3 146 rfl) rfl
theorem q730 : (Jvm.Cond.instanceMethod ({ cls := "java/util/ArrayList", name := "size", desc := "()I" } : Jvm.MethodName)) ∈ lw_all := lw_g (lw_at lw_m3 147 rfl) rfl
theorem q731 : (Jvm.Cond.selects "java/util/ArrayList" ({ cls := "java/util/ArrayList", name := "size", desc := "()I" } : Jvm.MethodName) ({ cls := "java/util/ArrayList", name := "size", desc := "()I" } : Jvm.MethodName)) ∈ lw_all := lw_g (lw_at lw_m3 148 rfl) rfl
theorem q732 : (Jvm.Cond.code ({ cls := "java/util/ArrayList", name := "size", desc := "()I" } : Jvm.MethodName) prog_49_method_8_code (1 : Nat) (Option.some Jvm.ClassFile.FieldType.int)) ∈ lw_all := lw_g (lw_at lw_m3 149 rfl) rfl
theorem q733 : (Jvm.Cond.methodLink "FastPlane$MachineReader" (47 : Nat) ({ cls := "FastPlane$MachineReader", name := "part", desc := "()V" } : Jvm.MethodName)) ∈ lw_all := lw_g (lw_at lw_m3 150 rfl) rfl
theorem q734 : (Jvm.Cond.privateMethod ({ cls := "FastPlane$MachineReader", name := "part", desc := "()V" } : Jvm.MethodName)) ∈ lw_tbl := lw_at lw_m3 151 rfl
theorem u734 : (Jvm.Cond.privateMethod ({ cls := "FastPlane$MachineReader", name := "part", desc := "()V" } : Jvm.MethodName)) ∈ lw_nw := List.mem_filter.mpr ⟨q734, rfl⟩
theorem q735 : (Jvm.Cond.instanceMethod ({ cls := "FastPlane$MachineReader", name := "part", desc := "()V" } : Jvm.MethodName)) ∈ lw_all := lw_g (lw_at lw_m3 152 rfl) rfl
theorem q736 : (Jvm.Cond.code ({ cls := "FastPlane$MachineReader", name := "part", desc := "()V" } : Jvm.MethodName) prog_11_method_3_code (8 : Nat) (Option.none : Option Jvm.ClassFile.FieldType)) ∈ lw_all := lw_g (lw_at lw_m3 153 rfl) rfl
theorem q737 : (Jvm.Cond.methodLink "FastPlane$MachineReader" (88 : Nat) ({ cls := "FastPlane$MachineReader", name := "mustBeName", desc := "()V" } : Jvm.MethodName)) ∈ lw_all := lw_g (lw_at lw_m3 154 rfl) rfl
theorem q738 : (Jvm.Cond.sameMethod "FastPlane$MachineReader" "FastPlane$Reader" "mustBeName" "()V") ∈ lw_all := lw_g (lw_at lw_m3 155 rfl) rfl
theorem q739 : (Jvm.Cond.declares ({ cls := "FastPlane$Reader", name := "mustBeName", desc := "()V" } : Jvm.MethodName)) ∈ lw_tbl := lw_at lw_m3 156 rfl
theorem u739 : (Jvm.Cond.declares ({ cls := "FastPlane$Reader", name := "mustBeName", desc := "()V" } : Jvm.MethodName)) ∈ lw_nw := List.mem_filter.mpr ⟨q739, rfl⟩
theorem q740 : (Jvm.Cond.selects "FastPlane$MachineReader" ({ cls := "FastPlane$MachineReader", name := "mustBeName", desc := "()V" } : Jvm.MethodName) ({ cls := "FastPlane$Reader", name := "mustBeName", desc := "()V" } : Jvm.MethodName)) ∈ lw_all := lw_g (lw_at lw_m3 157 rfl) rfl
theorem q741 : (Jvm.Cond.instanceMethod ({ cls := "FastPlane$Reader", name := "mustBeName", desc := "()V" } : Jvm.MethodName)) ∈ lw_all := lw_g (lw_at lw_m3 158 rfl) rfl
theorem q742 : (Jvm.Cond.code ({ cls := "FastPlane$Reader", name := "mustBeName", desc := "()V" } : Jvm.MethodName) prog_17_method_12_code (3 : Nat) (Option.none : Option Jvm.ClassFile.FieldType)) ∈ lw_all := lw_g (lw_at lw_m3 159 rfl) rfl
theorem q743 : (Jvm.Cond.methodLinkNest "FastPlane$Reader" (95 : Nat) ({ cls := "FastPlane", name := "known", desc := "(Ljava/lang/String;)I" } : Jvm.MethodName) "FastPlane") ∈ lw_tbl := lw_at lw_m3 160 rfl
theorem u743 : (Jvm.Cond.methodLinkNest "FastPlane$Reader" (95 : Nat) ({ cls := "FastPlane", name := "known", desc := "(Ljava/lang/String;)I" } : Jvm.MethodName) "FastPlane") ∈ lw_nw := List.mem_filter.mpr ⟨q743, rfl⟩
theorem q744 : (Jvm.Cond.static ({ cls := "FastPlane", name := "known", desc := "(Ljava/lang/String;)I" } : Jvm.MethodName)) ∈ lw_all := lw_g (lw_at lw_m3 161 rfl) rfl
theorem q745 : (Jvm.Cond.code ({ cls := "FastPlane", name := "known", desc := "(Ljava/lang/String;)I" } : Jvm.MethodName) prog_1_method_1_code (3 : Nat) (Option.some Jvm.ClassFile.FieldType.int)) ∈ lw_all := lw_g (lw_at lw_m3 162 rfl) rfl
theorem q746 : (Jvm.Cond.methodLink "FastPlane" (1 : Nat) ({ cls := "java/lang/String", name := "hashCode", desc := "()I" } : Jvm.MethodName)) ∈ lw_all := lw_g (lw_at lw_m3 163 rfl) rfl
theorem q747 : (Jvm.Cond.instanceMethod ({ cls := "java/lang/String", name := "hashCode", desc := "()I" } : Jvm.MethodName)) ∈ lw_all := lw_g (lw_at lw_m3 164 rfl) rfl
theorem q748 : (Jvm.Cond.selects "java/lang/String" ({ cls := "java/lang/String", name := "hashCode", desc := "()I" } : Jvm.MethodName) ({ cls := "java/lang/String", name := "hashCode", desc := "()I" } : Jvm.MethodName)) ∈ lw_all := lw_g (lw_at lw_m3 165 rfl) rfl
theorem q749 : (Jvm.Cond.code ({ cls := "java/lang/String", name := "hashCode", desc := "()I" } : Jvm.MethodName) prog_38_method_78_code (2 : Nat) (Option.some Jvm.ClassFile.FieldType.int)) ∈ lw_all := lw_g (lw_at lw_m3 166 rfl) rfl
theorem q750 : (Jvm.Cond.methodLink "java/lang/String" (628 : Nat) ({ cls := "java/lang/StringLatin1", name := "hashCode", desc := "([B)I" } : Jvm.MethodName)) ∈ lw_all := lw_g (lw_at lw_m3 167 rfl) rfl
theorem q751 : (Jvm.Cond.static ({ cls := "java/lang/StringLatin1", name := "hashCode", desc := "([B)I" } : Jvm.MethodName)) ∈ lw_all := lw_g (lw_at lw_m3 168 rfl) rfl
theorem q752 : (Jvm.Cond.code ({ cls := "java/lang/StringLatin1", name := "hashCode", desc := "([B)I" } : Jvm.MethodName) prog_40_method_21_code (1 : Nat) (Option.some Jvm.ClassFile.FieldType.int)) ∈ lw_all := lw_g (lw_at lw_m3 169 rfl) rfl
theorem q753 : (Jvm.Cond.methodLink "java/lang/StringLatin1" (84 : Nat) ({ cls := "jdk/internal/util/ArraysSupport", name := "vectorizedHashCode", desc := "(Ljava/lang/Object;IIII)I" } : Jvm.MethodName)) ∈ lw_all := lw_g (lw_at lw_m3 170 rfl) rfl
theorem q754 : (Jvm.Cond.static ({ cls := "jdk/internal/util/ArraysSupport", name := "vectorizedHashCode", desc := "(Ljava/lang/Object;IIII)I" } : Jvm.MethodName)) ∈ lw_all := lw_g (lw_at lw_m3 171 rfl) rfl
theorem q755 : (Jvm.Cond.code ({ cls := "jdk/internal/util/ArraysSupport", name := "vectorizedHashCode", desc := "(Ljava/lang/Object;IIII)I" } : Jvm.MethodName) prog_57_method_4_code (5 : Nat) (Option.some Jvm.ClassFile.FieldType.int)) ∈ lw_all := lw_g (lw_at lw_m3 172 rfl) rfl
theorem q756 : (Jvm.Cond.classLink "jdk/internal/util/ArraysSupport" (60 : Nat) "[B") ∈ lw_all := lw_g (lw_at lw_m3 173 rfl) rfl
theorem q757 : (Jvm.Cond.methodLink "jdk/internal/util/ArraysSupport" (62 : Nat) ({ cls := "jdk/internal/util/ArraysSupport", name := "signedHashCode", desc := "(I[BII)I" } : Jvm.MethodName)) ∈ lw_all := lw_g (lw_at lw_m3 174 rfl) rfl
theorem q758 : (Jvm.Cond.static ({ cls := "jdk/internal/util/ArraysSupport", name := "signedHashCode", desc := "(I[BII)I" } : Jvm.MethodName)) ∈ lw_all := lw_g (lw_at lw_m3 175 rfl) rfl
theorem q759 : (Jvm.Cond.code ({ cls := "jdk/internal/util/ArraysSupport", name := "signedHashCode", desc := "(I[BII)I" } : Jvm.MethodName) prog_57_method_5_code (6 : Nat) (Option.some Jvm.ClassFile.FieldType.int)) ∈ lw_all := lw_g (lw_at lw_m3 176 rfl) rfl
theorem q787 : (Jvm.Cond.classLink "jdk/internal/util/ArraysSupport" (82 : Nat) "[I") ∈ lw_all := lw_g (lw_at lw_m3 204 rfl) rfl
theorem q796 : (Jvm.Cond.methodLink "FastPlane" (9 : Nat) ({ cls := "java/lang/String", name := "equals", desc := "(Ljava/lang/Object;)Z" } : Jvm.MethodName)) ∈ lw_all := lw_g (lw_at lw_m3 213 rfl) rfl
theorem q807 : (Jvm.Cond.methodLink "FastPlane$Reader" (85 : Nat) ({ cls := "FastPlane$Reader", name := "wrong", desc := "()LFastPlane$Wrong;" } : Jvm.MethodName)) ∈ lw_all := lw_g (lw_at lw_m3 224 rfl) rfl
theorem q808 : (Jvm.Cond.instanceMethod ({ cls := "FastPlane$Reader", name := "wrong", desc := "()LFastPlane$Wrong;" } : Jvm.MethodName)) ∈ lw_all := lw_g (lw_at lw_m3 225 rfl) rfl
theorem q810 : (Jvm.Cond.selects "FastPlane$MachineReader" ({ cls := "FastPlane$Reader", name := "wrong", desc := "()LFastPlane$Wrong;" } : Jvm.MethodName) ({ cls := "FastPlane$Reader", name := "wrong", desc := "()LFastPlane$Wrong;" } : Jvm.MethodName)) ∈ lw_all := lw_g (lw_at lw_m3 227 rfl) rfl
theorem q811 : (Jvm.Cond.selects "FastPlane$TreatyReader" ({ cls := "FastPlane$Reader", name := "wrong", desc := "()LFastPlane$Wrong;" } : Jvm.MethodName) ({ cls := "FastPlane$Reader", name := "wrong", desc := "()LFastPlane$Wrong;" } : Jvm.MethodName)) ∈ lw_all := lw_g (lw_at lw_m3 228 rfl) rfl
theorem q812 : (Jvm.Cond.code ({ cls := "FastPlane$Reader", name := "wrong", desc := "()LFastPlane$Wrong;" } : Jvm.MethodName) prog_17_method_6_code (1 : Nat) (Option.some (Jvm.ClassFile.FieldType.object "FastPlane$Wrong"))) ∈ lw_all := lw_g (lw_at lw_m3 229 rfl) rfl
theorem q813 : (Jvm.Cond.classLink "FastPlane$Reader" (72 : Nat) "FastPlane$Wrong") ∈ lw_all := lw_g (lw_at lw_m3 230 rfl) rfl
theorem q814 : (Jvm.Cond.instantiable "FastPlane$Wrong" (8 : Nat)) ∈ lw_all := lw_g (lw_at lw_m3 231 rfl) rfl
theorem q836 : (Jvm.Cond.methodLink "java/lang/Throwable" (1 : Nat) ({ cls := "java/lang/Object", name := "<init>", desc := "()V" } : Jvm.MethodName)) ∈ lw_all := lw_g (lw_at lw_m4 13 rfl) rfl
theorem q837 : (Jvm.Cond.fieldLink "java/lang/Throwable" (13 : Nat) "java/lang/Throwable" "UNASSIGNED_STACK" "[Ljava/lang/StackTraceElement;") ∈ lw_all := lw_g (lw_at lw_m4 14 rfl) rfl
theorem q839 : (Jvm.Cond.fieldLink "java/lang/Throwable" (20 : Nat) "java/lang/Throwable" "SUPPRESSED_SENTINEL" "Ljava/util/List;") ∈ lw_all := lw_g (lw_at lw_m4 16 rfl) rfl
theorem q850 : (Jvm.Cond.methodLink "FastPlane$Reader" (74 : Nat) ({ cls := "FastPlane$Wrong", name := "<init>", desc := "(II)V" } : Jvm.MethodName)) ∈ lw_all := lw_g (lw_at lw_m4 27 rfl) rfl
theorem q851 : (Jvm.Cond.instanceMethod ({ cls := "FastPlane$Wrong", name := "<init>", desc := "(II)V" } : Jvm.MethodName)) ∈ lw_all := lw_g (lw_at lw_m4 28 rfl) rfl
theorem q852 : (Jvm.Cond.code ({ cls := "FastPlane$Wrong", name := "<init>", desc := "(II)V" } : Jvm.MethodName) prog_22_method_1_code (3 : Nat) (Option.none : Option Jvm.ClassFile.FieldType)) ∈ lw_all := lw_g (lw_at lw_m4 29 rfl) rfl
theorem q853 : (Jvm.Cond.methodLink "FastPlane$Wrong" (1 : Nat) ({ cls := "java/lang/Exception", name := "<init>", desc := "(Ljava/lang/String;Ljava/lang/Throwable;ZZ)V" } : Jvm.MethodName)) ∈ lw_all := lw_g (lw_at lw_m4 30 rfl) rfl
theorem q854 : (Jvm.Cond.instanceMethod ({ cls := "java/lang/Exception", name := "<init>", desc := "(Ljava/lang/String;Ljava/lang/Throwable;ZZ)V" } : Jvm.MethodName)) ∈ lw_all := lw_g (lw_at lw_m4 31 rfl) rfl
theorem q855 : (Jvm.Cond.code ({ cls := "java/lang/Exception", name := "<init>", desc := "(Ljava/lang/String;Ljava/lang/Throwable;ZZ)V" } : Jvm.MethodName) prog_32_method_5_code (5 : Nat) (Option.none : Option Jvm.ClassFile.FieldType)) ∈ lw_all := lw_g (lw_at lw_m4 32 rfl) rfl
theorem q856 : (Jvm.Cond.methodLink "java/lang/Exception" (16 : Nat) ({ cls := "java/lang/Throwable", name := "<init>", desc := "(Ljava/lang/String;Ljava/lang/Throwable;ZZ)V" } : Jvm.MethodName)) ∈ lw_all := lw_g (lw_at lw_m4 33 rfl) rfl
theorem q857 : (Jvm.Cond.instanceMethod ({ cls := "java/lang/Throwable", name := "<init>", desc := "(Ljava/lang/String;Ljava/lang/Throwable;ZZ)V" } : Jvm.MethodName)) ∈ lw_all := lw_g (lw_at lw_m4 34 rfl) rfl
theorem q858 : (Jvm.Cond.code ({ cls := "java/lang/Throwable", name := "<init>", desc := "(Ljava/lang/String;Ljava/lang/Throwable;ZZ)V" } : Jvm.MethodName) prog_44_method_5_code (5 : Nat) (Option.none : Option Jvm.ClassFile.FieldType)) ∈ lw_all := lw_g (lw_at lw_m4 35 rfl) rfl
theorem q859 : (Jvm.Cond.fieldLink "FastPlane$Wrong" (7 : Nat) "FastPlane$Wrong" "kind" "I") ∈ lw_all := lw_g (lw_at lw_m4 36 rfl) rfl
theorem q860 : (Jvm.Cond.fieldLink "FastPlane" (128 : Nat) "FastPlane$Wrong" "kind" "I") ∈ lw_all := lw_g (lw_at lw_m4 37 rfl) rfl
theorem q861 : (Jvm.Cond.fieldLink "FastPlane$Wrong" (13 : Nat) "FastPlane$Wrong" "place" "I") ∈ lw_all := lw_g (lw_at lw_m4 38 rfl) rfl
theorem q862 : (Jvm.Cond.fieldLink "FastPlane" (136 : Nat) "FastPlane$Wrong" "place" "I") ∈ lw_all := lw_g (lw_at lw_m4 39 rfl) rfl
theorem q864 : (Jvm.Cond.fieldLink "java/lang/Throwable" (31 : Nat) "java/lang/Throwable" "detailMessage" "Ljava/lang/String;") ∈ lw_all := lw_g (lw_at lw_m4 41 rfl) rfl
theorem q865 : (Jvm.Cond.fieldLink "java/lang/Throwable" (7 : Nat) "java/lang/Throwable" "cause" "Ljava/lang/Throwable;") ∈ lw_all := lw_g (lw_at lw_m4 42 rfl) rfl
theorem q866 : (Jvm.Cond.fieldLink "java/lang/Throwable" (17 : Nat) "java/lang/Throwable" "stackTrace" "[Ljava/lang/StackTraceElement;") ∈ lw_all := lw_g (lw_at lw_m4 43 rfl) rfl
theorem q867 : (Jvm.Cond.fieldLink "java/lang/Throwable" (24 : Nat) "java/lang/Throwable" "suppressedExceptions" "Ljava/util/List;") ∈ lw_all := lw_g (lw_at lw_m4 44 rfl) rfl
theorem q880 : (Jvm.Cond.methodLink "FastPlane$Reader" (99 : Nat) ({ cls := "java/lang/String", name := "hashCode", desc := "()I" } : Jvm.MethodName)) ∈ lw_all := lw_g (lw_at lw_m4 57 rfl) rfl
theorem q904 : (Jvm.Cond.methodLink "FastPlane$MachineReader" (95 : Nat) ({ cls := "FastPlane$Machine", name := "part", desc := "(Ljava/lang/String;)LFastPlane$Part;" } : Jvm.MethodName)) ∈ lw_all := lw_g (lw_at lw_m4 81 rfl) rfl
theorem q905 : (Jvm.Cond.instanceMethod ({ cls := "FastPlane$Machine", name := "part", desc := "(Ljava/lang/String;)LFastPlane$Part;" } : Jvm.MethodName)) ∈ lw_all := lw_g (lw_at lw_m4 82 rfl) rfl
theorem q906 : (Jvm.Cond.selects "FastPlane$Machine" ({ cls := "FastPlane$Machine", name := "part", desc := "(Ljava/lang/String;)LFastPlane$Part;" } : Jvm.MethodName) ({ cls := "FastPlane$Machine", name := "part", desc := "(Ljava/lang/String;)LFastPlane$Part;" } : Jvm.MethodName)) ∈ lw_all := lw_g (lw_at lw_m4 83 rfl) rfl
theorem q907 : (Jvm.Cond.code ({ cls := "FastPlane$Machine", name := "part", desc := "(Ljava/lang/String;)LFastPlane$Part;" } : Jvm.MethodName) prog_10_method_2_code (3 : Nat) (Option.some (Jvm.ClassFile.FieldType.object "FastPlane$Part"))) ∈ lw_all := lw_g (lw_at lw_m4 84 rfl) rfl
theorem q908 : (Jvm.Cond.methodLink "FastPlane$Machine" (40 : Nat) ({ cls := "java/util/ArrayList", name := "size", desc := "()I" } : Jvm.MethodName)) ∈ lw_all := lw_g (lw_at lw_m4 85 rfl) rfl
theorem q909 : (Jvm.Cond.methodLink "FastPlane$Machine" (44 : Nat) ({ cls := "java/util/ArrayList", name := "get", desc := "(I)Ljava/lang/Object;" } : Jvm.MethodName)) ∈ lw_all := lw_g (lw_at lw_m4 86 rfl) rfl
theorem q910 : (Jvm.Cond.instanceMethod ({ cls := "java/util/ArrayList", name := "get", desc := "(I)Ljava/lang/Object;" } : Jvm.MethodName)) ∈ lw_all := lw_g (lw_at lw_m4 87 rfl) rfl
theorem q911 : (Jvm.Cond.selects "java/util/ArrayList" ({ cls := "java/util/ArrayList", name := "get", desc := "(I)Ljava/lang/Object;" } : Jvm.MethodName) ({ cls := "java/util/ArrayList", name := "get", desc := "(I)Ljava/lang/Object;" } : Jvm.MethodName)) ∈ lw_all := lw_g (lw_at lw_m4 88 rfl) rfl
theorem q912 : (Jvm.Cond.code ({ cls := "java/util/ArrayList", name := "get", desc := "(I)Ljava/lang/Object;" } : Jvm.MethodName) prog_49_method_20_code (2 : Nat) (Option.some (Jvm.ClassFile.FieldType.object "java/lang/Object"))) ∈ lw_all := lw_g (lw_at lw_m4 89 rfl) rfl
theorem q913 : (Jvm.Cond.methodLink "java/util/ArrayList" (118 : Nat) ({ cls := "java/util/Objects", name := "checkIndex", desc := "(II)I" } : Jvm.MethodName)) ∈ lw_all := lw_g (lw_at lw_m4 90 rfl) rfl
theorem q914 : (Jvm.Cond.static ({ cls := "java/util/Objects", name := "checkIndex", desc := "(II)I" } : Jvm.MethodName)) ∈ lw_all := lw_g (lw_at lw_m4 91 rfl) rfl
theorem q915 : (Jvm.Cond.code ({ cls := "java/util/Objects", name := "checkIndex", desc := "(II)I" } : Jvm.MethodName) prog_53_method_17_code (2 : Nat) (Option.some Jvm.ClassFile.FieldType.int)) ∈ lw_all := lw_g (lw_at lw_m4 92 rfl) rfl
theorem q916 : (Jvm.Cond.methodLink "java/util/Objects" (105 : Nat) ({ cls := "jdk/internal/util/Preconditions", name := "checkIndex", desc := "(IILjava/util/function/BiFunction;)I" } : Jvm.MethodName)) ∈ lw_all := lw_g (lw_at lw_m4 93 rfl) rfl
theorem q917 : (Jvm.Cond.methodLink "java/util/ArrayList" (123 : Nat) ({ cls := "java/util/ArrayList", name := "elementData", desc := "(I)Ljava/lang/Object;" } : Jvm.MethodName)) ∈ lw_all := lw_g (lw_at lw_m4 94 rfl) rfl
theorem q918 : (Jvm.Cond.instanceMethod ({ cls := "java/util/ArrayList", name := "elementData", desc := "(I)Ljava/lang/Object;" } : Jvm.MethodName)) ∈ lw_all := lw_g (lw_at lw_m4 95 rfl) rfl
theorem q919 : (Jvm.Cond.selects "java/util/ArrayList" ({ cls := "java/util/ArrayList", name := "elementData", desc := "(I)Ljava/lang/Object;" } : Jvm.MethodName) ({ cls := "java/util/ArrayList", name := "elementData", desc := "(I)Ljava/lang/Object;" } : Jvm.MethodName)) ∈ lw_all := lw_g (lw_at lw_m4 96 rfl) rfl
theorem q920 : (Jvm.Cond.code ({ cls := "java/util/ArrayList", name := "elementData", desc := "(I)Ljava/lang/Object;" } : Jvm.MethodName) prog_49_method_18_code (2 : Nat) (Option.some (Jvm.ClassFile.FieldType.object "java/lang/Object"))) ∈ lw_all := lw_g (lw_at lw_m4 97 rfl) rfl
theorem q921 : (Jvm.Cond.classLink "FastPlane$Machine" (48 : Nat) "FastPlane$Part") ∈ lw_all := lw_g (lw_at lw_m4 98 rfl) rfl
theorem q922 : (Jvm.Cond.methodLink "FastPlane$Machine" (54 : Nat) ({ cls := "java/lang/String", name := "equals", desc := "(Ljava/lang/Object;)Z" } : Jvm.MethodName)) ∈ lw_all := lw_g (lw_at lw_m4 99 rfl) rfl
theorem q923 : (Jvm.Cond.classLink "FastPlane$MachineReader" (98 : Nat) "FastPlane$Wrong") ∈ lw_all := lw_g (lw_at lw_m4 100 rfl) rfl
theorem q924 : (Jvm.Cond.methodLink "FastPlane$MachineReader" (103 : Nat) ({ cls := "FastPlane$Wrong", name := "<init>", desc := "(II)V" } : Jvm.MethodName)) ∈ lw_all := lw_g (lw_at lw_m4 101 rfl) rfl
theorem q926 : (Jvm.Cond.methodLink "FastPlane$MachineReader" (108 : Nat) ({ cls := "FastPlane$MachineReader", name := "key", desc := "(Ljava/lang/String;)V" } : Jvm.MethodName)) ∈ lw_all := lw_g (lw_at lw_m4 103 rfl) rfl
theorem q927 : (Jvm.Cond.sameMethod "FastPlane$MachineReader" "FastPlane$Reader" "key" "(Ljava/lang/String;)V") ∈ lw_all := lw_g (lw_at lw_m4 104 rfl) rfl
theorem q928 : (Jvm.Cond.declares ({ cls := "FastPlane$Reader", name := "key", desc := "(Ljava/lang/String;)V" } : Jvm.MethodName)) ∈ lw_tbl := lw_at lw_m4 105 rfl
theorem u928 : (Jvm.Cond.declares ({ cls := "FastPlane$Reader", name := "key", desc := "(Ljava/lang/String;)V" } : Jvm.MethodName)) ∈ lw_nw := List.mem_filter.mpr ⟨q928, rfl⟩
theorem q929 : (Jvm.Cond.selects "FastPlane$MachineReader" ({ cls := "FastPlane$MachineReader", name := "key", desc := "(Ljava/lang/String;)V" } : Jvm.MethodName) ({ cls := "FastPlane$Reader", name := "key", desc := "(Ljava/lang/String;)V" } : Jvm.MethodName)) ∈ lw_all := lw_g (lw_at lw_m4 106 rfl) rfl
theorem q930 : (Jvm.Cond.instanceMethod ({ cls := "FastPlane$Reader", name := "key", desc := "(Ljava/lang/String;)V" } : Jvm.MethodName)) ∈ lw_all := lw_g (lw_at lw_m4 107 rfl) rfl
theorem q931 : (Jvm.Cond.code ({ cls := "FastPlane$Reader", name := "key", desc := "(Ljava/lang/String;)V" } : Jvm.MethodName) prog_17_method_8_code (2 : Nat) (Option.none : Option Jvm.ClassFile.FieldType)) ∈ lw_all := lw_g (lw_at lw_m4 108 rfl) rfl
theorem q932 : (Jvm.Cond.methodLink "FastPlane$Reader" (81 : Nat) ({ cls := "FastPlane$Reader", name := "is", desc := "(Ljava/lang/String;)Z" } : Jvm.MethodName)) ∈ lw_all := lw_g (lw_at lw_m4 109 rfl) rfl
theorem q933 : (Jvm.Cond.methodLink "FastPlane$Reader" (89 : Nat) ({ cls := "FastPlane$Reader", name := "next", desc := "()V" } : Jvm.MethodName)) ∈ lw_all := lw_g (lw_at lw_m4 110 rfl) rfl
theorem q934 : (Jvm.Cond.methodLink "FastPlane$MachineReader" (112 : Nat) ({ cls := "FastPlane$MachineReader", name := "number", desc := "(II)I" } : Jvm.MethodName)) ∈ lw_all := lw_g (lw_at lw_m4 111 rfl) rfl
theorem q935 : (Jvm.Cond.sameMethod "FastPlane$MachineReader" "FastPlane$Reader" "number" "(II)I") ∈ lw_all := lw_g (lw_at lw_m4 112 rfl) rfl
theorem q936 : (Jvm.Cond.declares ({ cls := "FastPlane$Reader", name := "number", desc := "(II)I" } : Jvm.MethodName)) ∈ lw_tbl := lw_at lw_m4 113 rfl
theorem u936 : (Jvm.Cond.declares ({ cls := "FastPlane$Reader", name := "number", desc := "(II)I" } : Jvm.MethodName)) ∈ lw_nw := List.mem_filter.mpr ⟨q936, rfl⟩
theorem q937 : (Jvm.Cond.selects "FastPlane$MachineReader" ({ cls := "FastPlane$MachineReader", name := "number", desc := "(II)I" } : Jvm.MethodName) ({ cls := "FastPlane$Reader", name := "number", desc := "(II)I" } : Jvm.MethodName)) ∈ lw_all := lw_g (lw_at lw_m4 114 rfl) rfl
theorem q938 : (Jvm.Cond.instanceMethod ({ cls := "FastPlane$Reader", name := "number", desc := "(II)I" } : Jvm.MethodName)) ∈ lw_all := lw_g (lw_at lw_m4 115 rfl) rfl
theorem q939 : (Jvm.Cond.code ({ cls := "FastPlane$Reader", name := "number", desc := "(II)I" } : Jvm.MethodName) prog_17_method_11_code (4 : Nat) (Option.some Jvm.ClassFile.FieldType.int)) ∈ lw_all := lw_g (lw_at lw_m4 116 rfl) rfl
theorem q943 : (Jvm.Cond.methodLink "FastPlane$MachineReader" (77 : Nat) ({ cls := "FastPlane$MachineReader", name := "wrong", desc := "()LFastPlane$Wrong;" } : Jvm.MethodName)) ∈ lw_all := lw_g (lw_at lw_m4 120 rfl) rfl
theorem q944 : (Jvm.Cond.sameMethod "FastPlane$MachineReader" "FastPlane$Reader" "wrong" "()LFastPlane$Wrong;") ∈ lw_all := lw_g (lw_at lw_m4 121 rfl) rfl
theorem q945 : (Jvm.Cond.declares ({ cls := "FastPlane$Reader", name := "wrong", desc := "()LFastPlane$Wrong;" } : Jvm.MethodName)) ∈ lw_tbl := lw_at lw_m4 122 rfl
theorem u945 : (Jvm.Cond.declares ({ cls := "FastPlane$Reader", name := "wrong", desc := "()LFastPlane$Wrong;" } : Jvm.MethodName)) ∈ lw_nw := List.mem_filter.mpr ⟨q945, rfl⟩
theorem q946 : (Jvm.Cond.selects "FastPlane$MachineReader" ({ cls := "FastPlane$MachineReader", name := "wrong", desc := "()LFastPlane$Wrong;" } : Jvm.MethodName) ({ cls := "FastPlane$Reader", name := "wrong", desc := "()LFastPlane$Wrong;" } : Jvm.MethodName)) ∈ lw_all := lw_g (lw_at lw_m4 123 rfl) rfl
theorem q949 : (Jvm.Cond.classLink "FastPlane$MachineReader" (126 : Nat) "FastPlane$Imperial") ∈ lw_all := lw_g (lw_at lw_m4 126 rfl) rfl
theorem q950 : (Jvm.Cond.instantiable "FastPlane$Imperial" (6 : Nat)) ∈ lw_all := lw_g (lw_at lw_m4 127 rfl) rfl
theorem q951 : (Jvm.Cond.methodLink "FastPlane$MachineReader" (128 : Nat) ({ cls := "FastPlane$Imperial", name := "<init>", desc := "(Ljava/lang/String;IIIII)V" } : Jvm.MethodName)) ∈ lw_all := lw_g (lw_at lw_m4 128 rfl) rfl
theorem q952 : (Jvm.Cond.instanceMethod ({ cls := "FastPlane$Imperial", name := "<init>", desc := "(Ljava/lang/String;IIIII)V" } : Jvm.MethodName)) ∈ lw_all := lw_g (lw_at lw_m4 129 rfl) rfl
theorem q953 : (Jvm.Cond.code ({ cls := "FastPlane$Imperial", name := "<init>", desc := "(Ljava/lang/String;IIIII)V" } : Jvm.MethodName) prog_7_method_1_code (7 : Nat) (Option.none : Option Jvm.ClassFile.FieldType)) ∈ lw_all := lw_g (lw_at lw_m4 130 rfl) rfl
theorem q954 : (Jvm.Cond.methodLink "FastPlane$Imperial" (1 : Nat) ({ cls := "FastPlane$Part", name := "<init>", desc := "(Ljava/lang/String;IIIII)V" } : Jvm.MethodName)) ∈ lw_all := lw_g (lw_at lw_m4 131 rfl) rfl
theorem q955 : (Jvm.Cond.instanceMethod ({ cls := "FastPlane$Part", name := "<init>", desc := "(Ljava/lang/String;IIIII)V" } : Jvm.MethodName)) ∈ lw_all := lw_g (lw_at lw_m4 132 rfl) rfl
theorem q956 : (Jvm.Cond.code ({ cls := "FastPlane$Part", name := "<init>", desc := "(Ljava/lang/String;IIIII)V" } : Jvm.MethodName) prog_15_method_1_code (7 : Nat) (Option.none : Option Jvm.ClassFile.FieldType)) ∈ lw_all := lw_g (lw_at lw_m4 133 rfl) rfl
theorem q957 : (Jvm.Cond.methodLink "FastPlane$Part" (1 : Nat) ({ cls := "java/lang/Object", name := "<init>", desc := "()V" } : Jvm.MethodName)) ∈ lw_all := lw_g (lw_at lw_m4 134 rfl) rfl
theorem q958 : (Jvm.Cond.fieldLink "FastPlane$Part" (7 : Nat) "FastPlane$Part" "name" "Ljava/lang/String;") ∈ lw_all := lw_g (lw_at lw_m4 135 rfl) rfl
theorem q959 : (Jvm.Cond.fieldLink "FastPlane$Machine" (50 : Nat) "FastPlane$Part" "name" "Ljava/lang/String;") ∈ lw_all := lw_g (lw_at lw_m4 136 rfl) rfl
theorem q960 : (Jvm.Cond.fieldLink "FastPlane$Part" (13 : Nat) "FastPlane$Part" "number" "I") ∈ lw_all := lw_g (lw_at lw_m4 137 rfl) rfl
theorem q961 : (Jvm.Cond.fieldLink "FastPlane" (301 : Nat) "FastPlane$Part" "number" "I") ∈ lw_all := lw_g (lw_at lw_m4 138 rfl) rfl
theorem q962 : (Jvm.Cond.fieldLink "FastPlane$Part" (17 : Nat) "FastPlane$Part" "by" "I") ∈ lw_all := lw_g (lw_at lw_m4 139 rfl) rfl
theorem q963 : (Jvm.Cond.fieldLink "FastPlane" (312 : Nat) "FastPlane$Part" "by" "I") ∈ lw_all := lw_g (lw_at lw_m4 140 rfl) rfl
theorem q964 : (Jvm.Cond.fieldLink "FastPlane$Part" (20 : Nat) "FastPlane$Part" "drawn" "I") ∈ lw_all := lw_g (lw_at lw_m4 141 rfl) rfl
theorem q965 : (Jvm.Cond.fieldLink "FastPlane$Imperial" (7 : Nat) "FastPlane$Imperial" "drawn" "I") ∈ lw_all := lw_g (lw_at lw_m4 142 rfl) rfl
theorem q966 : (Jvm.Cond.sameField "FastPlane$Imperial" "FastPlane$Part" "drawn" "I") ∈ lw_all := lw_g (lw_at lw_m4 143 rfl) rfl
theorem q967 : (Jvm.Cond.fieldLink "FastPlane$Metric" (7 : Nat) "FastPlane$Metric" "drawn" "I") ∈ lw_all := lw_g (lw_at lw_m4 144 rfl) rfl
theorem q968 : (Jvm.Cond.sameField "FastPlane$Metric" "FastPlane$Part" "drawn" "I") ∈ lw_all := lw_g (lw_at lw_m4 145 rfl) rfl
theorem q969 : (Jvm.Cond.fieldLink "FastPlane$Part" (23 : Nat) "FastPlane$Part" "grows" "I") ∈ lw_all := lw_g (lw_at lw_m4 146 rfl) rfl
theorem q970 : (Jvm.Cond.fieldLink "FastPlane$Part" (26 : Nat) "FastPlane$Part" "costs" "I") ∈ lw_all := lw_g (lw_at lw_m4 147 rfl) rfl
theorem q971 : (Jvm.Cond.fieldLink "FastPlane" (307 : Nat) "FastPlane$Part" "costs" "I") ∈ lw_all := lw_g (lw_at lw_m4 148 rfl) rfl
theorem q985 : (Jvm.Cond.classLink "FastPlane$MachineReader" (131 : Nat) "FastPlane$Metric") ∈ lw_all := lw_g (lw_at lw_m4 162 rfl) rfl
theorem q986 : (Jvm.Cond.instantiable "FastPlane$Metric" (6 : Nat)) ∈ lw_all := lw_g (lw_at lw_m4 163 rfl) rfl
theorem q987 : (Jvm.Cond.methodLink "FastPlane$MachineReader" (133 : Nat) ({ cls := "FastPlane$Metric", name := "<init>", desc := "(Ljava/lang/String;IIIII)V" } : Jvm.MethodName)) ∈ lw_all := lw_g (lw_at lw_m4 164 rfl) rfl
theorem q988 : (Jvm.Cond.instanceMethod ({ cls := "FastPlane$Metric", name := "<init>", desc := "(Ljava/lang/String;IIIII)V" } : Jvm.MethodName)) ∈ lw_all := lw_g (lw_at lw_m4 165 rfl) rfl
theorem q989 : (Jvm.Cond.code ({ cls := "FastPlane$Metric", name := "<init>", desc := "(Ljava/lang/String;IIIII)V" } : Jvm.MethodName) prog_12_method_1_code (7 : Nat) (Option.none : Option Jvm.ClassFile.FieldType)) ∈ lw_all := lw_g (lw_at lw_m4 166 rfl) rfl
theorem q990 : (Jvm.Cond.methodLink "FastPlane$Metric" (1 : Nat) ({ cls := "FastPlane$Part", name := "<init>", desc := "(Ljava/lang/String;IIIII)V" } : Jvm.MethodName)) ∈ lw_all := lw_g (lw_at lw_m4 167 rfl) rfl
theorem q998 : (Jvm.Cond.methodLink "FastPlane$MachineReader" (134 : Nat) ({ cls := "java/util/ArrayList", name := "add", desc := "(Ljava/lang/Object;)Z" } : Jvm.MethodName)) ∈ lw_all := lw_g (lw_at lw_m4 175 rfl) rfl
theorem q999 : (Jvm.Cond.instanceMethod ({ cls := "java/util/ArrayList", name := "add", desc := "(Ljava/lang/Object;)Z" } : Jvm.MethodName)) ∈ lw_all := lw_g (lw_at lw_m4 176 rfl) rfl
theorem q1000 : (Jvm.Cond.selects "java/util/ArrayList" ({ cls := "java/util/ArrayList", name := "add", desc := "(Ljava/lang/Object;)Z" } : Jvm.MethodName) ({ cls := "java/util/ArrayList", name := "add", desc := "(Ljava/lang/Object;)Z" } : Jvm.MethodName)) ∈ lw_all := lw_g (lw_at lw_m4 177 rfl) rfl
theorem q1001 : (Jvm.Cond.code ({ cls := "java/util/ArrayList", name := "add", desc := "(Ljava/lang/Object;)Z" } : Jvm.MethodName) prog_49_method_25_code (2 : Nat) (Option.some Jvm.ClassFile.FieldType.boolean)) ∈ lw_all := lw_g (lw_at lw_m4 178 rfl) rfl
theorem q1002 : (Jvm.Cond.methodLink "java/util/ArrayList" (131 : Nat) ({ cls := "java/util/ArrayList", name := "add", desc := "(Ljava/lang/Object;[Ljava/lang/Object;I)V" } : Jvm.MethodName)) ∈ lw_all := lw_g (lw_at lw_m4 179 rfl) rfl
theorem q1003 : (Jvm.Cond.privateMethod ({ cls := "java/util/ArrayList", name := "add", desc := "(Ljava/lang/Object;[Ljava/lang/Object;I)V" } : Jvm.MethodName)) ∈ lw_tbl := lw_at lw_m4 180 rfl
theorem u1003 : (Jvm.Cond.privateMethod ({ cls := "java/util/ArrayList", name := "add", desc := "(Ljava/lang/Object;[Ljava/lang/Object;I)V" } : Jvm.MethodName)) ∈ lw_nw := List.mem_filter.mpr ⟨q1003, rfl⟩
theorem q1004 : (Jvm.Cond.instanceMethod ({ cls := "java/util/ArrayList", name := "add", desc := "(Ljava/lang/Object;[Ljava/lang/Object;I)V" } : Jvm.MethodName)) ∈ lw_all := lw_g (lw_at lw_m4 181 rfl) rfl
theorem q1005 : (Jvm.Cond.code ({ cls := "java/util/ArrayList", name := "add", desc := "(Ljava/lang/Object;[Ljava/lang/Object;I)V" } : Jvm.MethodName) prog_49_method_24_code (4 : Nat) (Option.none : Option Jvm.ClassFile.FieldType)) ∈ lw_all := lw_g (lw_at lw_m4 182 rfl) rfl
theorem q1006 : (Jvm.Cond.methodLink "java/util/ArrayList" (129 : Nat) ({ cls := "java/util/ArrayList", name := "grow", desc := "()[Ljava/lang/Object;" } : Jvm.MethodName)) ∈ lw_all := lw_g (lw_at lw_m4 183 rfl) rfl
theorem q1007 : (Jvm.Cond.privateMethod ({ cls := "java/util/ArrayList", name := "grow", desc := "()[Ljava/lang/Object;" } : Jvm.MethodName)) ∈ lw_tbl := lw_at lw_m4 184 rfl
theorem u1007 : (Jvm.Cond.privateMethod ({ cls := "java/util/ArrayList", name := "grow", desc := "()[Ljava/lang/Object;" } : Jvm.MethodName)) ∈ lw_nw := List.mem_filter.mpr ⟨q1007, rfl⟩
theorem q1008 : (Jvm.Cond.instanceMethod ({ cls := "java/util/ArrayList", name := "grow", desc := "()[Ljava/lang/Object;" } : Jvm.MethodName)) ∈ lw_all := lw_g (lw_at lw_m4 185 rfl) rfl
theorem q1009 : (Jvm.Cond.code ({ cls := "java/util/ArrayList", name := "grow", desc := "()[Ljava/lang/Object;" } : Jvm.MethodName) prog_49_method_7_code (1 : Nat) (Option.some (Jvm.ClassFile.FieldType.array (Jvm.ClassFile.FieldType.object "java/lang/Object")))) ∈ lw_all := lw_g (lw_at lw_m4 186 rfl) rfl
theorem q1010 : (Jvm.Cond.methodLink "java/util/ArrayList" (69 : Nat) ({ cls := "java/util/ArrayList", name := "grow", desc := "(I)[Ljava/lang/Object;" } : Jvm.MethodName)) ∈ lw_all := lw_g (lw_at lw_m4 187 rfl) rfl
theorem q1011 : (Jvm.Cond.privateMethod ({ cls := "java/util/ArrayList", name := "grow", desc := "(I)[Ljava/lang/Object;" } : Jvm.MethodName)) ∈ lw_tbl := lw_at lw_m4 188 rfl
theorem u1011 : (Jvm.Cond.privateMethod ({ cls := "java/util/ArrayList", name := "grow", desc := "(I)[Ljava/lang/Object;" } : Jvm.MethodName)) ∈ lw_nw := List.mem_filter.mpr ⟨q1011, rfl⟩
theorem q1012 : (Jvm.Cond.instanceMethod ({ cls := "java/util/ArrayList", name := "grow", desc := "(I)[Ljava/lang/Object;" } : Jvm.MethodName)) ∈ lw_all := lw_g (lw_at lw_m4 189 rfl) rfl
theorem q1013 : (Jvm.Cond.code ({ cls := "java/util/ArrayList", name := "grow", desc := "(I)[Ljava/lang/Object;" } : Jvm.MethodName) prog_49_method_6_code (4 : Nat) (Option.some (Jvm.ClassFile.FieldType.array (Jvm.ClassFile.FieldType.object "java/lang/Object")))) ∈ lw_all := lw_g (lw_at lw_m4 190 rfl) rfl
theorem q1014 : (Jvm.Cond.fieldLink "java/util/ArrayList" (39 : Nat) "java/util/ArrayList" "DEFAULTCAPACITY_EMPTY_ELEMENTDATA" "[Ljava/lang/Object;") ∈ lw_all := lw_g (lw_at lw_m4 191 rfl) rfl
theorem q1016 : (Jvm.Cond.methodLink "java/util/ArrayList" (73 : Nat) ({ cls := "jdk/internal/util/ArraysSupport", name := "newLength", desc := "(III)I" } : Jvm.MethodName)) ∈ lw_all := lw_g (lw_at lw_m4 193 rfl) rfl
theorem q1017 : (Jvm.Cond.methodLink "java/util/ArrayList" (66 : Nat) ({ cls := "java/util/Arrays", name := "copyOf", desc := "([Ljava/lang/Object;I)[Ljava/lang/Object;" } : Jvm.MethodName)) ∈ lw_all := lw_g (lw_at lw_m4 194 rfl) rfl
theorem q1018 : (Jvm.Cond.static ({ cls := "java/util/Arrays", name := "copyOf", desc := "([Ljava/lang/Object;I)[Ljava/lang/Object;" } : Jvm.MethodName)) ∈ lw_all := lw_g (lw_at lw_m4 195 rfl) rfl
theorem q1019 : (Jvm.Cond.code ({ cls := "java/util/Arrays", name := "copyOf", desc := "([Ljava/lang/Object;I)[Ljava/lang/Object;" } : Jvm.MethodName) prog_50_method_119_code (2 : Nat) (Option.some (Jvm.ClassFile.FieldType.array (Jvm.ClassFile.FieldType.object "java/lang/Object")))) ∈ lw_all := lw_g (lw_at lw_m4 196 rfl) rfl
theorem q1020 : (Jvm.Cond.methodLink "java/util/Arrays" (86 : Nat) ({ cls := "java/lang/Object", name := "getClass", desc := "()Ljava/lang/Class;" } : Jvm.MethodName)) ∈ lw_all := lw_g (lw_at lw_m4 197 rfl) rfl
theorem q1048 : (Jvm.Cond.methodLink "java/util/Arrays" (300 : Nat) ({ cls := "java/util/Arrays", name := "copyOf", desc := "([Ljava/lang/Object;ILjava/lang/Class;)[Ljava/lang/Object;" } : Jvm.MethodName)) ∈ lw_all := lw_g (lw_at lw_m4 225 rfl) rfl
theorem q1049 : (Jvm.Cond.static ({ cls := "java/util/Arrays", name := "copyOf", desc := "([Ljava/lang/Object;ILjava/lang/Class;)[Ljava/lang/Object;" } : Jvm.MethodName)) ∈ lw_all := lw_g (lw_at lw_m4 226 rfl) rfl
theorem q1050 : (Jvm.Cond.code ({ cls := "java/util/Arrays", name := "copyOf", desc := "([Ljava/lang/Object;ILjava/lang/Class;)[Ljava/lang/Object;" } : Jvm.MethodName) prog_50_method_120_code (4 : Nat) (Option.some (Jvm.ClassFile.FieldType.array (Jvm.ClassFile.FieldType.object "java/lang/Object")))) ∈ lw_all := lw_g (lw_at lw_m4 227 rfl) rfl
theorem q1051 : (Jvm.Cond.classLink "java/util/Arrays" (110 : Nat) "[Ljava/lang/Object;") ∈ lw_all := lw_g (lw_at lw_m4 228 rfl) rfl
theorem q1052 : (Jvm.Cond.classLink "java/util/Arrays" (2 : Nat) "java/lang/Object") ∈ lw_all := lw_g (lw_at lw_m4 229 rfl) rfl
theorem q1053 : (Jvm.Cond.methodLink "java/util/ArrayList" (79 : Nat) ({ cls := "java/lang/Math", name := "max", desc := "(II)I" } : Jvm.MethodName)) ∈ lw_all := lw_g (lw_at lw_m4 230 rfl) rfl
theorem q1056 : (Jvm.Cond.methodLink "FastPlane$MachineReader" (56 : Nat) ({ cls := "FastPlane$MachineReader", name := "link", desc := "(Ljava/util/ArrayList;Ljava/lang/String;I)V" } : Jvm.MethodName)) ∈ lw_all := lw_g (lw_at lw_m4 233 rfl) rfl
theorem q1057 : (Jvm.Cond.privateMethod ({ cls := "FastPlane$MachineReader", name := "link", desc := "(Ljava/util/ArrayList;Ljava/lang/String;I)V" } : Jvm.MethodName)) ∈ lw_tbl := lw_at lw_m4 234 rfl
theorem u1057 : (Jvm.Cond.privateMethod ({ cls := "FastPlane$MachineReader", name := "link", desc := "(Ljava/util/ArrayList;Ljava/lang/String;I)V" } : Jvm.MethodName)) ∈ lw_nw := List.mem_filter.mpr ⟨q1057, rfl⟩
theorem q1058 : (Jvm.Cond.instanceMethod ({ cls := "FastPlane$MachineReader", name := "link", desc := "(Ljava/util/ArrayList;Ljava/lang/String;I)V" } : Jvm.MethodName)) ∈ lw_all := lw_g (lw_at lw_m4 235 rfl) rfl
theorem q1059 : (Jvm.Cond.code ({ cls := "FastPlane$MachineReader", name := "link", desc := "(Ljava/util/ArrayList;Ljava/lang/String;I)V" } : Jvm.MethodName) prog_11_method_5_code (6 : Nat) (Option.none : Option Jvm.ClassFile.FieldType)) ∈ lw_all := lw_g (lw_at lw_m4 236 rfl) rfl
theorem q1060 : (Jvm.Cond.methodLink "FastPlane$MachineReader" (138 : Nat) ({ cls := "FastPlane$MachineReader", name := "named", desc := "(LFastPlane$Part;)LFastPlane$Part;" } : Jvm.MethodName)) ∈ lw_all := lw_g (lw_at lw_m4 237 rfl) rfl
theorem q1061 : (Jvm.Cond.privateMethod ({ cls := "FastPlane$MachineReader", name := "named", desc := "(LFastPlane$Part;)LFastPlane$Part;" } : Jvm.MethodName)) ∈ lw_tbl := lw_at lw_m4 238 rfl
theorem u1061 : (Jvm.Cond.privateMethod ({ cls := "FastPlane$MachineReader", name := "named", desc := "(LFastPlane$Part;)LFastPlane$Part;" } : Jvm.MethodName)) ∈ lw_nw := List.mem_filter.mpr ⟨q1061, rfl⟩
theorem q1062 : (Jvm.Cond.instanceMethod ({ cls := "FastPlane$MachineReader", name := "named", desc := "(LFastPlane$Part;)LFastPlane$Part;" } : Jvm.MethodName)) ∈ lw_all := lw_g (lw_at lw_m4 239 rfl) rfl
theorem q1063 : (Jvm.Cond.code ({ cls := "FastPlane$MachineReader", name := "named", desc := "(LFastPlane$Part;)LFastPlane$Part;" } : Jvm.MethodName) prog_11_method_4_code (3 : Nat) (Option.some (Jvm.ClassFile.FieldType.object "FastPlane$Part"))) ∈ lw_all := lw_g (lw_at lw_m5 0 rfl) rfl
theorem q1064 : (Jvm.Cond.classLink "FastPlane$MachineReader" (142 : Nat) "FastPlane$Link") ∈ lw_all := lw_g (lw_at lw_m5 1 rfl) rfl
theorem q1065 : (Jvm.Cond.instantiable "FastPlane$Link" (3 : Nat)) ∈ lw_all := lw_g (lw_at lw_m5 2 rfl) rfl
theorem q1066 : (Jvm.Cond.methodLink "FastPlane$MachineReader" (144 : Nat) ({ cls := "FastPlane$Link", name := "<init>", desc := "(LFastPlane$Part;LFastPlane$Part;I)V" } : Jvm.MethodName)) ∈ lw_all := lw_g (lw_at lw_m5 3 rfl) rfl
theorem q1067 : (Jvm.Cond.instanceMethod ({ cls := "FastPlane$Link", name := "<init>", desc := "(LFastPlane$Part;LFastPlane$Part;I)V" } : Jvm.MethodName)) ∈ lw_all := lw_g (lw_at lw_m5 4 rfl) rfl
theorem q1068 : (Jvm.Cond.code ({ cls := "FastPlane$Link", name := "<init>", desc := "(LFastPlane$Part;LFastPlane$Part;I)V" } : Jvm.MethodName) prog_9_method_1_code (4 : Nat) (Option.none : Option Jvm.ClassFile.FieldType)) ∈ lw_all := lw_g (lw_at lw_m5 5 rfl) rfl
theorem q1069 : (Jvm.Cond.methodLink "FastPlane$Link" (1 : Nat) ({ cls := "java/lang/Object", name := "<init>", desc := "()V" } : Jvm.MethodName)) ∈ lw_all := lw_g (lw_at lw_m5 6 rfl) rfl
theorem q1070 : (Jvm.Cond.fieldLink "FastPlane$Link" (7 : Nat) "FastPlane$Link" "a" "LFastPlane$Part;") ∈ lw_all := lw_g (lw_at lw_m5 7 rfl) rfl
theorem q1071 : (Jvm.Cond.fieldLink "FastPlane" (209 : Nat) "FastPlane$Link" "a" "LFastPlane$Part;") ∈ lw_all := lw_g (lw_at lw_m5 8 rfl) rfl
theorem q1072 : (Jvm.Cond.fieldLink "FastPlane$Link" (13 : Nat) "FastPlane$Link" "b" "LFastPlane$Part;") ∈ lw_all := lw_g (lw_at lw_m5 9 rfl) rfl
theorem q1073 : (Jvm.Cond.fieldLink "FastPlane" (216 : Nat) "FastPlane$Link" "b" "LFastPlane$Part;") ∈ lw_all := lw_g (lw_at lw_m5 10 rfl) rfl
theorem q1074 : (Jvm.Cond.fieldLink "FastPlane$Link" (16 : Nat) "FastPlane$Link" "n" "I") ∈ lw_all := lw_g (lw_at lw_m5 11 rfl) rfl
theorem q1075 : (Jvm.Cond.fieldLink "FastPlane" (224 : Nat) "FastPlane$Link" "n" "I") ∈ lw_all := lw_g (lw_at lw_m5 12 rfl) rfl
theorem q1086 : (Jvm.Cond.methodLink "FastPlane$MachineReader" (71 : Nat) ({ cls := "FastPlane$MachineReader", name := "tank", desc := "()V" } : Jvm.MethodName)) ∈ lw_all := lw_g (lw_at lw_m5 23 rfl) rfl
theorem q1087 : (Jvm.Cond.privateMethod ({ cls := "FastPlane$MachineReader", name := "tank", desc := "()V" } : Jvm.MethodName)) ∈ lw_tbl := lw_at lw_m5 24 rfl
theorem u1087 : (Jvm.Cond.privateMethod ({ cls := "FastPlane$MachineReader", name := "tank", desc := "()V" } : Jvm.MethodName)) ∈ lw_nw := List.mem_filter.mpr ⟨q1087, rfl⟩
theorem q1088 : (Jvm.Cond.instanceMethod ({ cls := "FastPlane$MachineReader", name := "tank", desc := "()V" } : Jvm.MethodName)) ∈ lw_all := lw_g (lw_at lw_m5 25 rfl) rfl
theorem q1089 : (Jvm.Cond.code ({ cls := "FastPlane$MachineReader", name := "tank", desc := "()V" } : Jvm.MethodName) prog_11_method_6_code (1 : Nat) (Option.none : Option Jvm.ClassFile.FieldType)) ∈ lw_all := lw_g (lw_at lw_m5 26 rfl) rfl
theorem q1093 : (Jvm.Cond.methodLink "FastPlane$MachineReader" (75 : Nat) ({ cls := "FastPlane$MachineReader", name := "row", desc := "()V" } : Jvm.MethodName)) ∈ lw_all := lw_g (lw_at lw_m5 30 rfl) rfl
theorem q1094 : (Jvm.Cond.privateMethod ({ cls := "FastPlane$MachineReader", name := "row", desc := "()V" } : Jvm.MethodName)) ∈ lw_tbl := lw_at lw_m5 31 rfl
theorem u1094 : (Jvm.Cond.privateMethod ({ cls := "FastPlane$MachineReader", name := "row", desc := "()V" } : Jvm.MethodName)) ∈ lw_nw := List.mem_filter.mpr ⟨q1094, rfl⟩
theorem q1095 : (Jvm.Cond.instanceMethod ({ cls := "FastPlane$MachineReader", name := "row", desc := "()V" } : Jvm.MethodName)) ∈ lw_all := lw_g (lw_at lw_m5 32 rfl) rfl
theorem q1096 : (Jvm.Cond.code ({ cls := "FastPlane$MachineReader", name := "row", desc := "()V" } : Jvm.MethodName) prog_11_method_7_code (4 : Nat) (Option.none : Option Jvm.ClassFile.FieldType)) ∈ lw_all := lw_g (lw_at lw_m5 33 rfl) rfl
theorem q1097 : (Jvm.Cond.methodLink "FastPlane$MachineReader" (163 : Nat) ({ cls := "java/lang/String", name := "length", desc := "()I" } : Jvm.MethodName)) ∈ lw_all := lw_g (lw_at lw_m5 34 rfl) rfl
theorem q1098 : (Jvm.Cond.methodLink "FastPlane$MachineReader" (168 : Nat) ({ cls := "java/lang/String", name := "charAt", desc := "(I)C" } : Jvm.MethodName)) ∈ lw_all := lw_g (lw_at lw_m5 35 rfl) rfl
theorem q1099 : (Jvm.Cond.instanceMethod ({ cls := "java/lang/String", name := "charAt", desc := "(I)C" } : Jvm.MethodName)) ∈ lw_all := lw_g (lw_at lw_m5 36 rfl) rfl
theorem q1100 : (Jvm.Cond.selects "java/lang/String" ({ cls := "java/lang/String", name := "charAt", desc := "(I)C" } : Jvm.MethodName) ({ cls := "java/lang/String", name := "charAt", desc := "(I)C" } : Jvm.MethodName)) ∈ lw_all := lw_g (lw_at lw_m5 37 rfl) rfl
theorem q1101 : (Jvm.Cond.code ({ cls := "java/lang/String", name := "charAt", desc := "(I)C" } : Jvm.MethodName) prog_38_method_56_code (2 : Nat) (Option.some Jvm.ClassFile.FieldType.char)) ∈ lw_all := lw_g (lw_at lw_m5 38 rfl) rfl
theorem q1102 : (Jvm.Cond.methodLink "java/lang/String" (495 : Nat) ({ cls := "java/lang/StringLatin1", name := "charAt", desc := "([BI)C" } : Jvm.MethodName)) ∈ lw_all := lw_g (lw_at lw_m5 39 rfl) rfl
theorem q1103 : (Jvm.Cond.static ({ cls := "java/lang/StringLatin1", name := "charAt", desc := "([BI)C" } : Jvm.MethodName)) ∈ lw_all := lw_g (lw_at lw_m5 40 rfl) rfl
theorem q1104 : (Jvm.Cond.code ({ cls := "java/lang/StringLatin1", name := "charAt", desc := "([BI)C" } : Jvm.MethodName) prog_40_method_2_code (2 : Nat) (Option.some Jvm.ClassFile.FieldType.char)) ∈ lw_all := lw_g (lw_at lw_m5 41 rfl) rfl
theorem q1105 : (Jvm.Cond.methodLink "java/lang/StringLatin1" (9 : Nat) ({ cls := "java/lang/String", name := "checkIndex", desc := "(II)V" } : Jvm.MethodName)) ∈ lw_all := lw_g (lw_at lw_m5 42 rfl) rfl
theorem q1109 : (Jvm.Cond.methodLink "FastPlane$MachineReader" (81 : Nat) ({ cls := "FastPlane$MachineReader", name := "need", desc := "(I)V" } : Jvm.MethodName)) ∈ lw_all := lw_g (lw_at lw_m5 46 rfl) rfl
theorem q1110 : (Jvm.Cond.sameMethod "FastPlane$MachineReader" "FastPlane$Reader" "need" "(I)V") ∈ lw_all := lw_g (lw_at lw_m5 47 rfl) rfl
theorem q1111 : (Jvm.Cond.declares ({ cls := "FastPlane$Reader", name := "need", desc := "(I)V" } : Jvm.MethodName)) ∈ lw_tbl := lw_at lw_m5 48 rfl
theorem u1111 : (Jvm.Cond.declares ({ cls := "FastPlane$Reader", name := "need", desc := "(I)V" } : Jvm.MethodName)) ∈ lw_nw := List.mem_filter.mpr ⟨q1111, rfl⟩
theorem q1112 : (Jvm.Cond.selects "FastPlane$MachineReader" ({ cls := "FastPlane$MachineReader", name := "need", desc := "(I)V" } : Jvm.MethodName) ({ cls := "FastPlane$Reader", name := "need", desc := "(I)V" } : Jvm.MethodName)) ∈ lw_all := lw_g (lw_at lw_m5 49 rfl) rfl
theorem q1113 : (Jvm.Cond.instanceMethod ({ cls := "FastPlane$Reader", name := "need", desc := "(I)V" } : Jvm.MethodName)) ∈ lw_all := lw_g (lw_at lw_m5 50 rfl) rfl
theorem q1114 : (Jvm.Cond.code ({ cls := "FastPlane$Reader", name := "need", desc := "(I)V" } : Jvm.MethodName) prog_17_method_10_code (2 : Nat) (Option.none : Option Jvm.ClassFile.FieldType)) ∈ lw_all := lw_g (lw_at lw_m5 51 rfl) rfl
theorem q1115 : (Jvm.Cond.methodLink "FastPlane" (148 : Nat) ({ cls := "java/util/ArrayList", name := "clear", desc := "()V" } : Jvm.MethodName)) ∈ lw_all := lw_g (lw_at lw_m5 52 rfl) rfl
theorem q1116 : (Jvm.Cond.instanceMethod ({ cls := "java/util/ArrayList", name := "clear", desc := "()V" } : Jvm.MethodName)) ∈ lw_all := lw_g (lw_at lw_m5 53 rfl) rfl
theorem q1117 : (Jvm.Cond.selects "java/util/ArrayList" ({ cls := "java/util/ArrayList", name := "clear", desc := "()V" } : Jvm.MethodName) ({ cls := "java/util/ArrayList", name := "clear", desc := "()V" } : Jvm.MethodName)) ∈ lw_all := lw_g (lw_at lw_m5 54 rfl) rfl
theorem q1118 : (Jvm.Cond.code ({ cls := "java/util/ArrayList", name := "clear", desc := "()V" } : Jvm.MethodName) prog_49_method_40_code (4 : Nat) (Option.none : Option Jvm.ClassFile.FieldType)) ∈ lw_all := lw_g (lw_at lw_m5 55 rfl) rfl
theorem q1119 : (Jvm.Cond.methodLink "FastPlane" (154 : Nat) ({ cls := "FastPlane", name := "read", desc := "(LFastPlane$Wrong;)V" } : Jvm.MethodName)) ∈ lw_all := lw_g (lw_at lw_m5 56 rfl) rfl
theorem q1120 : (Jvm.Cond.privateMethod ({ cls := "FastPlane", name := "read", desc := "(LFastPlane$Wrong;)V" } : Jvm.MethodName)) ∈ lw_tbl := lw_at lw_m5 57 rfl
theorem u1120 : (Jvm.Cond.privateMethod ({ cls := "FastPlane", name := "read", desc := "(LFastPlane$Wrong;)V" } : Jvm.MethodName)) ∈ lw_nw := List.mem_filter.mpr ⟨q1120, rfl⟩
theorem q1121 : (Jvm.Cond.instanceMethod ({ cls := "FastPlane", name := "read", desc := "(LFastPlane$Wrong;)V" } : Jvm.MethodName)) ∈ lw_all := lw_g (lw_at lw_m5 58 rfl) rfl
theorem q1122 : (Jvm.Cond.code ({ cls := "FastPlane", name := "read", desc := "(LFastPlane$Wrong;)V" } : Jvm.MethodName) prog_1_method_6_code (2 : Nat) (Option.none : Option Jvm.ClassFile.FieldType)) ∈ lw_all := lw_g (lw_at lw_m5 59 rfl) rfl
theorem q1123 : (Jvm.Cond.methodLink "FastPlaneLaw" (28 : Nat) ({ cls := "FastPlane", name := "treaty", desc := "(I)I" } : Jvm.MethodName)) ∈ lw_all := lw_g (lw_at lw_m5 60 rfl) rfl
theorem q1124 : (Jvm.Cond.instanceMethod ({ cls := "FastPlane", name := "treaty", desc := "(I)I" } : Jvm.MethodName)) ∈ lw_all := lw_g (lw_at lw_m5 61 rfl) rfl
theorem q1125 : (Jvm.Cond.selects "FastPlane" ({ cls := "FastPlane", name := "treaty", desc := "(I)I" } : Jvm.MethodName) ({ cls := "FastPlane", name := "treaty", desc := "(I)I" } : Jvm.MethodName)) ∈ lw_all := lw_g (lw_at lw_m5 62 rfl) rfl
theorem q1126 : (Jvm.Cond.codeWith ({ cls := "FastPlane", name := "treaty", desc := "(I)I" } : Jvm.MethodName) prog_1_method_10_code (3 : Nat) (Option.some Jvm.ClassFile.FieldType.int) [((20 : Nat), (51 : Nat), (52 : Nat), (129 : Nat))]) ∈ lw_all := lw_g (lw_at lw_m5 63 rfl) rfl
theorem q1127 : (Jvm.Cond.methodLink "FastPlane" (165 : Nat) ({ cls := "FastPlane", name := "isTongue", desc := "(I)Z" } : Jvm.MethodName)) ∈ lw_all := lw_g (lw_at lw_m5 64 rfl) rfl
theorem q1128 : (Jvm.Cond.static ({ cls := "FastPlane", name := "isTongue", desc := "(I)Z" } : Jvm.MethodName)) ∈ lw_all := lw_g (lw_at lw_m5 65 rfl) rfl
theorem q1129 : (Jvm.Cond.code ({ cls := "FastPlane", name := "isTongue", desc := "(I)Z" } : Jvm.MethodName) prog_1_method_9_code (1 : Nat) (Option.some Jvm.ClassFile.FieldType.boolean)) ∈ lw_all := lw_g (lw_at lw_m5 66 rfl) rfl
theorem q1130 : (Jvm.Cond.methodLink "FastPlane" (161 : Nat) ({ cls := "FastPlane", name := "isIn", desc := "(III)Z" } : Jvm.MethodName)) ∈ lw_all := lw_g (lw_at lw_m5 67 rfl) rfl
theorem q1131 : (Jvm.Cond.static ({ cls := "FastPlane", name := "isIn", desc := "(III)Z" } : Jvm.MethodName)) ∈ lw_all := lw_g (lw_at lw_m5 68 rfl) rfl
theorem q1132 : (Jvm.Cond.code ({ cls := "FastPlane", name := "isIn", desc := "(III)Z" } : Jvm.MethodName) prog_1_method_8_code (3 : Nat) (Option.some Jvm.ClassFile.FieldType.boolean)) ∈ lw_all := lw_g (lw_at lw_m5 69 rfl) rfl
theorem q1133 : (Jvm.Cond.classLink "FastPlane" (169 : Nat) "FastPlane$TreatyReader") ∈ lw_all := lw_g (lw_at lw_m5 70 rfl) rfl
theorem q1134 : (Jvm.Cond.instantiable "FastPlane$TreatyReader" (12 : Nat)) ∈ lw_all := lw_g (lw_at lw_m5 71 rfl) rfl
theorem q1135 : (Jvm.Cond.methodLinkNest "FastPlane" (171 : Nat) ({ cls := "FastPlane$TreatyReader", name := "<init>", desc := "(LFastPlane;)V" } : Jvm.MethodName) "FastPlane") ∈ lw_tbl := lw_at lw_m5 72 rfl
theorem u1135 : (Jvm.Cond.methodLinkNest "FastPlane" (171 : Nat) ({ cls := "FastPlane$TreatyReader", name := "<init>", desc := "(LFastPlane;)V" } : Jvm.MethodName) "FastPlane") ∈ lw_nw := List.mem_filter.mpr ⟨q1135, rfl⟩
theorem q1136 : (Jvm.Cond.instanceMethod ({ cls := "FastPlane$TreatyReader", name := "<init>", desc := "(LFastPlane;)V" } : Jvm.MethodName)) ∈ lw_all := lw_g (lw_at lw_m5 73 rfl) rfl
theorem q1137 : (Jvm.Cond.code ({ cls := "FastPlane$TreatyReader", name := "<init>", desc := "(LFastPlane;)V" } : Jvm.MethodName) prog_20_method_1_code (2 : Nat) (Option.none : Option Jvm.ClassFile.FieldType)) ∈ lw_all := lw_g (lw_at lw_m5 74 rfl) rfl
theorem q1138 : (Jvm.Cond.methodLinkNest "FastPlane$TreatyReader" (9 : Nat) ({ cls := "FastPlane$Reader", name := "<init>", desc := "(LFastPlane;)V" } : Jvm.MethodName) "FastPlane") ∈ lw_tbl := lw_at lw_m5 75 rfl
theorem u1138 : (Jvm.Cond.methodLinkNest "FastPlane$TreatyReader" (9 : Nat) ({ cls := "FastPlane$Reader", name := "<init>", desc := "(LFastPlane;)V" } : Jvm.MethodName) "FastPlane") ∈ lw_nw := List.mem_filter.mpr ⟨q1138, rfl⟩
theorem q1139 : (Jvm.Cond.classLink "FastPlane$TreatyReader" (15 : Nat) "FastPlane$Treaty") ∈ lw_all := lw_g (lw_at lw_m5 76 rfl) rfl
theorem q1140 : (Jvm.Cond.methodLinkNest "FastPlane$TreatyReader" (17 : Nat) ({ cls := "FastPlane$Treaty", name := "<init>", desc := "()V" } : Jvm.MethodName) "FastPlane") ∈ lw_tbl := lw_at lw_m5 77 rfl
theorem u1140 : (Jvm.Cond.methodLinkNest "FastPlane$TreatyReader" (17 : Nat) ({ cls := "FastPlane$Treaty", name := "<init>", desc := "()V" } : Jvm.MethodName) "FastPlane") ∈ lw_nw := List.mem_filter.mpr ⟨q1140, rfl⟩
theorem q1141 : (Jvm.Cond.fieldLink "FastPlane$TreatyReader" (20 : Nat) "FastPlane$TreatyReader" "made" "LFastPlane$Treaty;") ∈ lw_all := lw_g (lw_at lw_m5 78 rfl) rfl
theorem q1142 : (Jvm.Cond.fieldLink "FastPlane$TreatyReader" (151 : Nat) "FastPlane$TreatyReader" "units" "I") ∈ lw_all := lw_g (lw_at lw_m5 79 rfl) rfl
theorem q1143 : (Jvm.Cond.fieldLink "FastPlane$TreatyReader" (110 : Nat) "FastPlane$TreatyReader" "deep" "I") ∈ lw_all := lw_g (lw_at lw_m5 80 rfl) rfl
theorem q1144 : (Jvm.Cond.fieldLink "FastPlane$TreatyReader" (47 : Nat) "FastPlane$TreatyReader" "line" "I") ∈ lw_all := lw_g (lw_at lw_m5 81 rfl) rfl
theorem q1145 : (Jvm.Cond.fieldLink "FastPlane$TreatyReader" (3 : Nat) "FastPlane$TreatyReader" "this$0" "LFastPlane;") ∈ lw_all := lw_g (lw_at lw_m5 82 rfl) rfl
theorem q1164 : (Jvm.Cond.methodLink "FastPlane" (172 : Nat) ({ cls := "FastPlane$TreatyReader", name := "text", desc := "()LFastPlane$Treaty;" } : Jvm.MethodName)) ∈ lw_all := lw_g (lw_at lw_m5 101 rfl) rfl
theorem q1165 : (Jvm.Cond.instanceMethod ({ cls := "FastPlane$TreatyReader", name := "text", desc := "()LFastPlane$Treaty;" } : Jvm.MethodName)) ∈ lw_all := lw_g (lw_at lw_m5 102 rfl) rfl
theorem q1166 : (Jvm.Cond.selects "FastPlane$TreatyReader" ({ cls := "FastPlane$TreatyReader", name := "text", desc := "()LFastPlane$Treaty;" } : Jvm.MethodName) ({ cls := "FastPlane$TreatyReader", name := "text", desc := "()LFastPlane$Treaty;" } : Jvm.MethodName)) ∈ lw_all := lw_g (lw_at lw_m5 103 rfl) rfl
theorem q1167 : (Jvm.Cond.code ({ cls := "FastPlane$TreatyReader", name := "text", desc := "()LFastPlane$Treaty;" } : Jvm.MethodName) prog_20_method_3_code (2 : Nat) (Option.some (Jvm.ClassFile.FieldType.object "FastPlane$Treaty"))) ∈ lw_all := lw_g (lw_at lw_m5 104 rfl) rfl
theorem q1168 : (Jvm.Cond.methodLink "FastPlane$TreatyReader" (36 : Nat) ({ cls := "FastPlane$TreatyReader", name := "next", desc := "()V" } : Jvm.MethodName)) ∈ lw_all := lw_g (lw_at lw_m5 105 rfl) rfl
theorem q1169 : (Jvm.Cond.sameMethod "FastPlane$TreatyReader" "FastPlane$Reader" "next" "()V") ∈ lw_all := lw_g (lw_at lw_m5 106 rfl) rfl
theorem q1170 : (Jvm.Cond.selects "FastPlane$TreatyReader" ({ cls := "FastPlane$TreatyReader", name := "next", desc := "()V" } : Jvm.MethodName) ({ cls := "FastPlane$Reader", name := "next", desc := "()V" } : Jvm.MethodName)) ∈ lw_all := lw_g (lw_at lw_m5 107 rfl) rfl
theorem q1171 : (Jvm.Cond.methodLink "FastPlane$TreatyReader" (43 : Nat) ({ cls := "FastPlane$TreatyReader", name := "lineHere", desc := "()I" } : Jvm.MethodName)) ∈ lw_all := lw_g (lw_at lw_m5 108 rfl) rfl
theorem q1172 : (Jvm.Cond.privateMethod ({ cls := "FastPlane$TreatyReader", name := "lineHere", desc := "()I" } : Jvm.MethodName)) ∈ lw_tbl := lw_at lw_m5 109 rfl
theorem u1172 : (Jvm.Cond.privateMethod ({ cls := "FastPlane$TreatyReader", name := "lineHere", desc := "()I" } : Jvm.MethodName)) ∈ lw_nw := List.mem_filter.mpr ⟨q1172, rfl⟩
theorem q1173 : (Jvm.Cond.instanceMethod ({ cls := "FastPlane$TreatyReader", name := "lineHere", desc := "()I" } : Jvm.MethodName)) ∈ lw_all := lw_g (lw_at lw_m5 110 rfl) rfl
theorem q1174 : (Jvm.Cond.code ({ cls := "FastPlane$TreatyReader", name := "lineHere", desc := "()I" } : Jvm.MethodName) prog_20_method_2_code (1 : Nat) (Option.some Jvm.ClassFile.FieldType.int)) ∈ lw_all := lw_g (lw_at lw_m5 111 rfl) rfl
theorem q1176 : (Jvm.Cond.methodLink "FastPlane$TreatyReader" (26 : Nat) ({ cls := "FastPlane$TreatyReader", name := "is", desc := "(Ljava/lang/String;)Z" } : Jvm.MethodName)) ∈ lw_all := lw_g (lw_at lw_m5 113 rfl) rfl
theorem q1177 : (Jvm.Cond.sameMethod "FastPlane$TreatyReader" "FastPlane$Reader" "is" "(Ljava/lang/String;)Z") ∈ lw_all := lw_g (lw_at lw_m5 114 rfl) rfl
theorem q1178 : (Jvm.Cond.selects "FastPlane$TreatyReader" ({ cls := "FastPlane$TreatyReader", name := "is", desc := "(Ljava/lang/String;)Z" } : Jvm.MethodName) ({ cls := "FastPlane$Reader", name := "is", desc := "(Ljava/lang/String;)Z" } : Jvm.MethodName)) ∈ lw_all := lw_g (lw_at lw_m5 115 rfl) rfl
theorem q1182 : (Jvm.Cond.methodLink "FastPlane$TreatyReader" (54 : Nat) ({ cls := "FastPlane$TreatyReader", name := "wrong", desc := "()LFastPlane$Wrong;" } : Jvm.MethodName)) ∈ lw_all := lw_g (lw_at lw_m5 119 rfl) rfl
theorem q1183 : (Jvm.Cond.sameMethod "FastPlane$TreatyReader" "FastPlane$Reader" "wrong" "()LFastPlane$Wrong;") ∈ lw_all := lw_g (lw_at lw_m5 120 rfl) rfl
theorem q1184 : (Jvm.Cond.selects "FastPlane$TreatyReader" ({ cls := "FastPlane$TreatyReader", name := "wrong", desc := "()LFastPlane$Wrong;" } : Jvm.MethodName) ({ cls := "FastPlane$Reader", name := "wrong", desc := "()LFastPlane$Wrong;" } : Jvm.MethodName)) ∈ lw_all := lw_g (lw_at lw_m5 121 rfl) rfl
theorem q1186 : (Jvm.Cond.methodLink "FastPlane$TreatyReader" (60 : Nat) ({ cls := "FastPlane$TreatyReader", name := "key", desc := "(Ljava/lang/String;)V" } : Jvm.MethodName)) ∈ lw_all := lw_g (lw_at lw_m5 123 rfl) rfl
theorem q1187 : (Jvm.Cond.sameMethod "FastPlane$TreatyReader" "FastPlane$Reader" "key" "(Ljava/lang/String;)V") ∈ lw_all := lw_g (lw_at lw_m5 124 rfl) rfl
theorem q1188 : (Jvm.Cond.selects "FastPlane$TreatyReader" ({ cls := "FastPlane$TreatyReader", name := "key", desc := "(Ljava/lang/String;)V" } : Jvm.MethodName) ({ cls := "FastPlane$Reader", name := "key", desc := "(Ljava/lang/String;)V" } : Jvm.MethodName)) ∈ lw_all := lw_g (lw_at lw_m5 125 rfl) rfl
theorem q1189 : (Jvm.Cond.methodLink "FastPlane$TreatyReader" (64 : Nat) ({ cls := "FastPlane$TreatyReader", name := "either", desc := "()LFastPlane$Ex;" } : Jvm.MethodName)) ∈ lw_all := lw_g (lw_at lw_m5 126 rfl) rfl
theorem q1190 : (Jvm.Cond.privateMethod ({ cls := "FastPlane$TreatyReader", name := "either", desc := "()LFastPlane$Ex;" } : Jvm.MethodName)) ∈ lw_tbl := lw_at lw_m5 127 rfl
theorem u1190 : (Jvm.Cond.privateMethod ({ cls := "FastPlane$TreatyReader", name := "either", desc := "()LFastPlane$Ex;" } : Jvm.MethodName)) ∈ lw_nw := List.mem_filter.mpr ⟨q1190, rfl⟩
theorem q1191 : (Jvm.Cond.instanceMethod ({ cls := "FastPlane$TreatyReader", name := "either", desc := "()LFastPlane$Ex;" } : Jvm.MethodName)) ∈ lw_all := lw_g (lw_at lw_m5 128 rfl) rfl
theorem q1192 : (Jvm.Cond.code ({ cls := "FastPlane$TreatyReader", name := "either", desc := "()LFastPlane$Ex;" } : Jvm.MethodName) prog_20_method_4_code (2 : Nat) (Option.some (Jvm.ClassFile.FieldType.object "FastPlane$Ex"))) ∈ lw_all := lw_g (lw_at lw_m5 129 rfl) rfl
theorem q1193 : (Jvm.Cond.classLink "FastPlane$TreatyReader" (75 : Nat) "java/util/ArrayList") ∈ lw_all := lw_g (lw_at lw_m5 130 rfl) rfl
theorem q1194 : (Jvm.Cond.methodLink "FastPlane$TreatyReader" (77 : Nat) ({ cls := "java/util/ArrayList", name := "<init>", desc := "(I)V" } : Jvm.MethodName)) ∈ lw_all := lw_g (lw_at lw_m5 131 rfl) rfl
theorem q1195 : (Jvm.Cond.methodLink "FastPlane$TreatyReader" (79 : Nat) ({ cls := "FastPlane$TreatyReader", name := "both", desc := "()LFastPlane$Ex;" } : Jvm.MethodName)) ∈ lw_all := lw_g (lw_at lw_m5 132 rfl) rfl
theorem q1196 : (Jvm.Cond.privateMethod ({ cls := "FastPlane$TreatyReader", name := "both", desc := "()LFastPlane$Ex;" } : Jvm.MethodName)) ∈ lw_tbl := lw_at lw_m5 133 rfl
theorem u1196 : (Jvm.Cond.privateMethod ({ cls := "FastPlane$TreatyReader", name := "both", desc := "()LFastPlane$Ex;" } : Jvm.MethodName)) ∈ lw_nw := List.mem_filter.mpr ⟨q1196, rfl⟩
theorem q1197 : (Jvm.Cond.instanceMethod ({ cls := "FastPlane$TreatyReader", name := "both", desc := "()LFastPlane$Ex;" } : Jvm.MethodName)) ∈ lw_all := lw_g (lw_at lw_m5 134 rfl) rfl
theorem q1198 : (Jvm.Cond.code ({ cls := "FastPlane$TreatyReader", name := "both", desc := "()LFastPlane$Ex;" } : Jvm.MethodName) prog_20_method_5_code (2 : Nat) (Option.some (Jvm.ClassFile.FieldType.object "FastPlane$Ex"))) ∈ lw_all := lw_g (lw_at lw_m5 135 rfl) rfl
theorem q1199 : (Jvm.Cond.methodLink "FastPlane$TreatyReader" (105 : Nat) ({ cls := "FastPlane$TreatyReader", name := "one", desc := "()LFastPlane$Ex;" } : Jvm.MethodName)) ∈ lw_all := lw_g (lw_at lw_m5 136 rfl) rfl
theorem q1200 : (Jvm.Cond.privateMethod ({ cls := "FastPlane$TreatyReader", name := "one", desc := "()LFastPlane$Ex;" } : Jvm.MethodName)) ∈ lw_tbl := lw_at lw_m5 137 rfl
theorem u1200 : (Jvm.Cond.privateMethod ({ cls := "FastPlane$TreatyReader", name := "one", desc := "()LFastPlane$Ex;" } : Jvm.MethodName)) ∈ lw_nw := List.mem_filter.mpr ⟨q1200, rfl⟩
theorem q1201 : (Jvm.Cond.instanceMethod ({ cls := "FastPlane$TreatyReader", name := "one", desc := "()LFastPlane$Ex;" } : Jvm.MethodName)) ∈ lw_all := lw_g (lw_at lw_m5 138 rfl) rfl
theorem q1202 : (Jvm.Cond.code ({ cls := "FastPlane$TreatyReader", name := "one", desc := "()LFastPlane$Ex;" } : Jvm.MethodName) prog_20_method_7_code (3 : Nat) (Option.some (Jvm.ClassFile.FieldType.object "FastPlane$Ex"))) ∈ lw_all := lw_g (lw_at lw_m5 139 rfl) rfl
theorem q1204 : (Jvm.Cond.methodLink "FastPlane$TreatyReader" (115 : Nat) ({ cls := "FastPlane$TreatyReader", name := "deeper", desc := "()V" } : Jvm.MethodName)) ∈ lw_all := lw_g (lw_at lw_m5 141 rfl) rfl
theorem q1205 : (Jvm.Cond.privateMethod ({ cls := "FastPlane$TreatyReader", name := "deeper", desc := "()V" } : Jvm.MethodName)) ∈ lw_tbl := lw_at lw_m5 142 rfl
theorem u1205 : (Jvm.Cond.privateMethod ({ cls := "FastPlane$TreatyReader", name := "deeper", desc := "()V" } : Jvm.MethodName)) ∈ lw_nw := List.mem_filter.mpr ⟨q1205, rfl⟩
theorem q1206 : (Jvm.Cond.instanceMethod ({ cls := "FastPlane$TreatyReader", name := "deeper", desc := "()V" } : Jvm.MethodName)) ∈ lw_all := lw_g (lw_at lw_m5 143 rfl) rfl
theorem q1207 : (Jvm.Cond.code ({ cls := "FastPlane$TreatyReader", name := "deeper", desc := "()V" } : Jvm.MethodName) prog_20_method_6_code (1 : Nat) (Option.none : Option Jvm.ClassFile.FieldType)) ∈ lw_all := lw_g (lw_at lw_m5 144 rfl) rfl
theorem q1208 : (Jvm.Cond.classLink "FastPlane$TreatyReader" (118 : Nat) "FastPlane$Not") ∈ lw_all := lw_g (lw_at lw_m5 145 rfl) rfl
theorem q1209 : (Jvm.Cond.instantiable "FastPlane$Not" (1 : Nat)) ∈ lw_all := lw_g (lw_at lw_m5 146 rfl) rfl
theorem q1210 : (Jvm.Cond.methodLink "FastPlane$TreatyReader" (120 : Nat) ({ cls := "FastPlane$Not", name := "<init>", desc := "(LFastPlane$Ex;)V" } : Jvm.MethodName)) ∈ lw_all := lw_g (lw_at lw_m5 147 rfl) rfl
theorem q1211 : (Jvm.Cond.instanceMethod ({ cls := "FastPlane$Not", name := "<init>", desc := "(LFastPlane$Ex;)V" } : Jvm.MethodName)) ∈ lw_all := lw_g (lw_at lw_m5 148 rfl) rfl
theorem q1212 : (Jvm.Cond.code ({ cls := "FastPlane$Not", name := "<init>", desc := "(LFastPlane$Ex;)V" } : Jvm.MethodName) prog_13_method_1_code (2 : Nat) (Option.none : Option Jvm.ClassFile.FieldType)) ∈ lw_all := lw_g (lw_at lw_m5 149 rfl) rfl
theorem q1213 : (Jvm.Cond.methodLinkNest "FastPlane$Not" (1 : Nat) ({ cls := "FastPlane$Ex", name := "<init>", desc := "()V" } : Jvm.MethodName) "FastPlane") ∈ lw_tbl := lw_at lw_m5 150 rfl
theorem u1213 : (Jvm.Cond.methodLinkNest "FastPlane$Not" (1 : Nat) ({ cls := "FastPlane$Ex", name := "<init>", desc := "()V" } : Jvm.MethodName) "FastPlane") ∈ lw_nw := List.mem_filter.mpr ⟨q1213, rfl⟩
theorem q1214 : (Jvm.Cond.instanceMethod ({ cls := "FastPlane$Ex", name := "<init>", desc := "()V" } : Jvm.MethodName)) ∈ lw_all := lw_g (lw_at lw_m5 151 rfl) rfl
theorem q1215 : (Jvm.Cond.code ({ cls := "FastPlane$Ex", name := "<init>", desc := "()V" } : Jvm.MethodName) prog_5_method_1_code (1 : Nat) (Option.none : Option Jvm.ClassFile.FieldType)) ∈ lw_all := lw_g (lw_at lw_m5 152 rfl) rfl
theorem q1216 : (Jvm.Cond.methodLink "FastPlane$Ex" (1 : Nat) ({ cls := "java/lang/Object", name := "<init>", desc := "()V" } : Jvm.MethodName)) ∈ lw_all := lw_g (lw_at lw_m5 153 rfl) rfl
theorem q1217 : (Jvm.Cond.fieldLink "FastPlane$Not" (7 : Nat) "FastPlane$Not" "of" "LFastPlane$Ex;") ∈ lw_all := lw_g (lw_at lw_m5 154 rfl) rfl
theorem q1221 : (Jvm.Cond.methodLink "FastPlane$TreatyReader" (123 : Nat) ({ cls := "FastPlane$TreatyReader", name := "sum", desc := "()LFastPlane$Ex;" } : Jvm.MethodName)) ∈ lw_all := lw_g (lw_at lw_m5 158 rfl) rfl
theorem q1222 : (Jvm.Cond.privateMethod ({ cls := "FastPlane$TreatyReader", name := "sum", desc := "()LFastPlane$Ex;" } : Jvm.MethodName)) ∈ lw_tbl := lw_at lw_m5 159 rfl
theorem u1222 : (Jvm.Cond.privateMethod ({ cls := "FastPlane$TreatyReader", name := "sum", desc := "()LFastPlane$Ex;" } : Jvm.MethodName)) ∈ lw_nw := List.mem_filter.mpr ⟨q1222, rfl⟩
theorem q1223 : (Jvm.Cond.instanceMethod ({ cls := "FastPlane$TreatyReader", name := "sum", desc := "()LFastPlane$Ex;" } : Jvm.MethodName)) ∈ lw_all := lw_g (lw_at lw_m5 160 rfl) rfl
theorem q1224 : (Jvm.Cond.code ({ cls := "FastPlane$TreatyReader", name := "sum", desc := "()LFastPlane$Ex;" } : Jvm.MethodName) prog_20_method_8_code (4 : Nat) (Option.some (Jvm.ClassFile.FieldType.object "FastPlane$Ex"))) ∈ lw_all := lw_g (lw_at lw_m5 161 rfl) rfl
theorem q1225 : (Jvm.Cond.methodLink "FastPlane$TreatyReader" (131 : Nat) ({ cls := "FastPlane$TreatyReader", name := "term", desc := "()LFastPlane$Ex;" } : Jvm.MethodName)) ∈ lw_all := lw_g (lw_at lw_m5 162 rfl) rfl
theorem q1226 : (Jvm.Cond.privateMethod ({ cls := "FastPlane$TreatyReader", name := "term", desc := "()LFastPlane$Ex;" } : Jvm.MethodName)) ∈ lw_tbl := lw_at lw_m5 163 rfl
theorem u1226 : (Jvm.Cond.privateMethod ({ cls := "FastPlane$TreatyReader", name := "term", desc := "()LFastPlane$Ex;" } : Jvm.MethodName)) ∈ lw_nw := List.mem_filter.mpr ⟨q1226, rfl⟩
theorem q1227 : (Jvm.Cond.instanceMethod ({ cls := "FastPlane$TreatyReader", name := "term", desc := "()LFastPlane$Ex;" } : Jvm.MethodName)) ∈ lw_all := lw_g (lw_at lw_m5 164 rfl) rfl
theorem q1228 : (Jvm.Cond.code ({ cls := "FastPlane$TreatyReader", name := "term", desc := "()LFastPlane$Ex;" } : Jvm.MethodName) prog_20_method_9_code (3 : Nat) (Option.some (Jvm.ClassFile.FieldType.object "FastPlane$Ex"))) ∈ lw_all := lw_g (lw_at lw_m5 165 rfl) rfl
theorem q1229 : (Jvm.Cond.methodLink "FastPlane$TreatyReader" (140 : Nat) ({ cls := "FastPlane$TreatyReader", name := "unit", desc := "()LFastPlane$Ex;" } : Jvm.MethodName)) ∈ lw_all := lw_g (lw_at lw_m5 166 rfl) rfl
theorem q1230 : (Jvm.Cond.privateMethod ({ cls := "FastPlane$TreatyReader", name := "unit", desc := "()LFastPlane$Ex;" } : Jvm.MethodName)) ∈ lw_tbl := lw_at lw_m5 167 rfl
theorem u1230 : (Jvm.Cond.privateMethod ({ cls := "FastPlane$TreatyReader", name := "unit", desc := "()LFastPlane$Ex;" } : Jvm.MethodName)) ∈ lw_nw := List.mem_filter.mpr ⟨q1230, rfl⟩
theorem q1231 : (Jvm.Cond.instanceMethod ({ cls := "FastPlane$TreatyReader", name := "unit", desc := "()LFastPlane$Ex;" } : Jvm.MethodName)) ∈ lw_all := lw_g (lw_at lw_m5 168 rfl) rfl
theorem q1232 : (Jvm.Cond.code ({ cls := "FastPlane$TreatyReader", name := "unit", desc := "()LFastPlane$Ex;" } : Jvm.MethodName) prog_20_method_10_code (3 : Nat) (Option.some (Jvm.ClassFile.FieldType.object "FastPlane$Ex"))) ∈ lw_all := lw_g (lw_at lw_m5 169 rfl) rfl
theorem q1233 : (Jvm.Cond.methodLinkNest "FastPlane$TreatyReader" (147 : Nat) ({ cls := "FastPlane", name := "known", desc := "(Ljava/lang/String;)I" } : Jvm.MethodName) "FastPlane") ∈ lw_tbl := lw_at lw_m5 170 rfl
theorem u1233 : (Jvm.Cond.methodLinkNest "FastPlane$TreatyReader" (147 : Nat) ({ cls := "FastPlane", name := "known", desc := "(Ljava/lang/String;)I" } : Jvm.MethodName) "FastPlane") ∈ lw_nw := List.mem_filter.mpr ⟨q1233, rfl⟩
theorem q1234 : (Jvm.Cond.methodLinkNest "FastPlane$TreatyReader" (154 : Nat) ({ cls := "FastPlane", name := "may", desc := "(I)I" } : Jvm.MethodName) "FastPlane") ∈ lw_tbl := lw_at lw_m5 171 rfl
theorem u1234 : (Jvm.Cond.methodLinkNest "FastPlane$TreatyReader" (154 : Nat) ({ cls := "FastPlane", name := "may", desc := "(I)I" } : Jvm.MethodName) "FastPlane") ∈ lw_nw := List.mem_filter.mpr ⟨q1234, rfl⟩
theorem q1235 : (Jvm.Cond.static ({ cls := "FastPlane", name := "may", desc := "(I)I" } : Jvm.MethodName)) ∈ lw_all := lw_g (lw_at lw_m5 172 rfl) rfl
theorem q1236 : (Jvm.Cond.code ({ cls := "FastPlane", name := "may", desc := "(I)I" } : Jvm.MethodName) prog_1_method_2_code (1 : Nat) (Option.some Jvm.ClassFile.FieldType.int)) ∈ lw_all := lw_g (lw_at lw_m5 173 rfl) rfl
theorem q1237 : (Jvm.Cond.classLink "FastPlane$TreatyReader" (157 : Nat) "FastPlane$Wrong") ∈ lw_all := lw_g (lw_at lw_m5 174 rfl) rfl
theorem q1238 : (Jvm.Cond.methodLink "FastPlane$TreatyReader" (162 : Nat) ({ cls := "FastPlane$Wrong", name := "<init>", desc := "(II)V" } : Jvm.MethodName)) ∈ lw_all := lw_g (lw_at lw_m5 175 rfl) rfl
theorem q1239 : (Jvm.Cond.methodLink "FastPlane$TreatyReader" (68 : Nat) ({ cls := "FastPlane$TreatyReader", name := "need", desc := "(I)V" } : Jvm.MethodName)) ∈ lw_all := lw_g (lw_at lw_m5 176 rfl) rfl
theorem q1240 : (Jvm.Cond.sameMethod "FastPlane$TreatyReader" "FastPlane$Reader" "need" "(I)V") ∈ lw_all := lw_g (lw_at lw_m5 177 rfl) rfl
theorem q1241 : (Jvm.Cond.selects "FastPlane$TreatyReader" ({ cls := "FastPlane$TreatyReader", name := "need", desc := "(I)V" } : Jvm.MethodName) ({ cls := "FastPlane$Reader", name := "need", desc := "(I)V" } : Jvm.MethodName)) ∈ lw_all := lw_g (lw_at lw_m5 178 rfl) rfl
theorem q1242 : (Jvm.Cond.classLink "FastPlane$TreatyReader" (165 : Nat) "FastPlane$Word") ∈ lw_all := lw_g (lw_at lw_m5 179 rfl) rfl
theorem q1243 : (Jvm.Cond.instantiable "FastPlane$Word" (1 : Nat)) ∈ lw_all := lw_g (lw_at lw_m5 180 rfl) rfl
theorem q1244 : (Jvm.Cond.methodLink "FastPlane$TreatyReader" (167 : Nat) ({ cls := "FastPlane$Word", name := "<init>", desc := "(I)V" } : Jvm.MethodName)) ∈ lw_all := lw_g (lw_at lw_m5 181 rfl) rfl
theorem q1245 : (Jvm.Cond.instanceMethod ({ cls := "FastPlane$Word", name := "<init>", desc := "(I)V" } : Jvm.MethodName)) ∈ lw_all := lw_g (lw_at lw_m5 182 rfl) rfl
theorem q1246 : (Jvm.Cond.code ({ cls := "FastPlane$Word", name := "<init>", desc := "(I)V" } : Jvm.MethodName) prog_21_method_1_code (2 : Nat) (Option.none : Option Jvm.ClassFile.FieldType)) ∈ lw_all := lw_g (lw_at lw_m5 183 rfl) rfl
theorem q1247 : (Jvm.Cond.methodLinkNest "FastPlane$Word" (1 : Nat) ({ cls := "FastPlane$Ex", name := "<init>", desc := "()V" } : Jvm.MethodName) "FastPlane") ∈ lw_tbl := lw_at lw_m5 184 rfl
theorem u1247 : (Jvm.Cond.methodLinkNest "FastPlane$Word" (1 : Nat) ({ cls := "FastPlane$Ex", name := "<init>", desc := "()V" } : Jvm.MethodName) "FastPlane") ∈ lw_nw := List.mem_filter.mpr ⟨q1247, rfl⟩
theorem q1248 : (Jvm.Cond.fieldLink "FastPlane$Word" (7 : Nat) "FastPlane$Word" "what" "I") ∈ lw_all := lw_g (lw_at lw_m5 185 rfl) rfl
theorem q1252 : (Jvm.Cond.classLink "FastPlane$TreatyReader" (168 : Nat) "FastPlane$Plain") ∈ lw_all := lw_g (lw_at lw_m5 189 rfl) rfl
theorem q1253 : (Jvm.Cond.instantiable "FastPlane$Plain" (1 : Nat)) ∈ lw_all := lw_g (lw_at lw_m5 190 rfl) rfl
theorem q1254 : (Jvm.Cond.methodLink "FastPlane$TreatyReader" (173 : Nat) ({ cls := "FastPlane$Plain", name := "<init>", desc := "(I)V" } : Jvm.MethodName)) ∈ lw_all := lw_g (lw_at lw_m5 191 rfl) rfl
theorem q1255 : (Jvm.Cond.instanceMethod ({ cls := "FastPlane$Plain", name := "<init>", desc := "(I)V" } : Jvm.MethodName)) ∈ lw_all := lw_g (lw_at lw_m5 192 rfl) rfl
theorem q1256 : (Jvm.Cond.code ({ cls := "FastPlane$Plain", name := "<init>", desc := "(I)V" } : Jvm.MethodName) prog_16_method_1_code (2 : Nat) (Option.none : Option Jvm.ClassFile.FieldType)) ∈ lw_all := lw_g (lw_at lw_m5 193 rfl) rfl
theorem q1257 : (Jvm.Cond.methodLinkNest "FastPlane$Plain" (1 : Nat) ({ cls := "FastPlane$Ex", name := "<init>", desc := "()V" } : Jvm.MethodName) "FastPlane") ∈ lw_tbl := lw_at lw_m5 194 rfl
theorem u1257 : (Jvm.Cond.methodLinkNest "FastPlane$Plain" (1 : Nat) ({ cls := "FastPlane$Ex", name := "<init>", desc := "()V" } : Jvm.MethodName) "FastPlane") ∈ lw_nw := List.mem_filter.mpr ⟨q1257, rfl⟩
theorem q1258 : (Jvm.Cond.fieldLink "FastPlane$Plain" (7 : Nat) "FastPlane$Plain" "n" "I") ∈ lw_all := lw_g (lw_at lw_m5 195 rfl) rfl
theorem q1262 : (Jvm.Cond.classLink "FastPlane$TreatyReader" (134 : Nat) "FastPlane$Chain") ∈ lw_all := lw_g (lw_at lw_m5 199 rfl) rfl
theorem q1263 : (Jvm.Cond.instantiable "FastPlane$Chain" (2 : Nat)) ∈ lw_all := lw_g (lw_at lw_m5 200 rfl) rfl
theorem q1264 : (Jvm.Cond.methodLink "FastPlane$TreatyReader" (136 : Nat) ({ cls := "FastPlane$Chain", name := "<init>", desc := "(LFastPlane$Ex;)V" } : Jvm.MethodName)) ∈ lw_all := lw_g (lw_at lw_m5 201 rfl) rfl
theorem q1265 : (Jvm.Cond.instanceMethod ({ cls := "FastPlane$Chain", name := "<init>", desc := "(LFastPlane$Ex;)V" } : Jvm.MethodName)) ∈ lw_all := lw_g (lw_at lw_m5 202 rfl) rfl
theorem q1266 : (Jvm.Cond.code ({ cls := "FastPlane$Chain", name := "<init>", desc := "(LFastPlane$Ex;)V" } : Jvm.MethodName) prog_2_method_1_code (2 : Nat) (Option.none : Option Jvm.ClassFile.FieldType)) ∈ lw_all := lw_g (lw_at lw_m5 203 rfl) rfl
theorem q1267 : (Jvm.Cond.methodLinkNest "FastPlane$Chain" (1 : Nat) ({ cls := "FastPlane$Ex", name := "<init>", desc := "()V" } : Jvm.MethodName) "FastPlane") ∈ lw_tbl := lw_at lw_m5 204 rfl
theorem u1267 : (Jvm.Cond.methodLinkNest "FastPlane$Chain" (1 : Nat) ({ cls := "FastPlane$Ex", name := "<init>", desc := "()V" } : Jvm.MethodName) "FastPlane") ∈ lw_nw := List.mem_filter.mpr ⟨q1267, rfl⟩
theorem q1268 : (Jvm.Cond.classLink "FastPlane$Chain" (7 : Nat) "java/util/ArrayList") ∈ lw_all := lw_g (lw_at lw_m5 205 rfl) rfl
theorem q1269 : (Jvm.Cond.methodLink "FastPlane$Chain" (9 : Nat) ({ cls := "java/util/ArrayList", name := "<init>", desc := "(I)V" } : Jvm.MethodName)) ∈ lw_all := lw_g (lw_at lw_m5 206 rfl) rfl
theorem q1270 : (Jvm.Cond.methodLink "FastPlane$Chain" (21 : Nat) ({ cls := "java/util/ArrayList", name := "add", desc := "(Ljava/lang/Object;)Z" } : Jvm.MethodName)) ∈ lw_all := lw_g (lw_at lw_m5 207 rfl) rfl
theorem q1271 : (Jvm.Cond.fieldLink "FastPlane$Chain" (12 : Nat) "FastPlane$Chain" "row" "Ljava/util/ArrayList;") ∈ lw_all := lw_g (lw_at lw_m5 208 rfl) rfl
theorem q1272 : (Jvm.Cond.fieldLink "FastPlane$Chain" (18 : Nat) "FastPlane$Chain" "signs" "Ljava/util/ArrayList;") ∈ lw_all := lw_g (lw_at lw_m5 209 rfl) rfl
theorem q1278 : (Jvm.Cond.methodLink "FastPlane$TreatyReader" (137 : Nat) ({ cls := "FastPlane$Chain", name := "add", desc := "(ILFastPlane$Ex;)V" } : Jvm.MethodName)) ∈ lw_all := lw_g (lw_at lw_m5 215 rfl) rfl
theorem q1279 : (Jvm.Cond.instanceMethod ({ cls := "FastPlane$Chain", name := "add", desc := "(ILFastPlane$Ex;)V" } : Jvm.MethodName)) ∈ lw_all := lw_g (lw_at lw_m5 216 rfl) rfl
theorem q1280 : (Jvm.Cond.selects "FastPlane$Chain" ({ cls := "FastPlane$Chain", name := "add", desc := "(ILFastPlane$Ex;)V" } : Jvm.MethodName) ({ cls := "FastPlane$Chain", name := "add", desc := "(ILFastPlane$Ex;)V" } : Jvm.MethodName)) ∈ lw_all := lw_g (lw_at lw_m5 217 rfl) rfl
theorem q1281 : (Jvm.Cond.code ({ cls := "FastPlane$Chain", name := "add", desc := "(ILFastPlane$Ex;)V" } : Jvm.MethodName) prog_2_method_2_code (3 : Nat) (Option.none : Option Jvm.ClassFile.FieldType)) ∈ lw_all := lw_g (lw_at lw_m5 218 rfl) rfl
theorem q1282 : (Jvm.Cond.methodLink "FastPlane$Chain" (25 : Nat) ({ cls := "java/lang/Integer", name := "valueOf", desc := "(I)Ljava/lang/Integer;" } : Jvm.MethodName)) ∈ lw_all := lw_g (lw_at lw_m5 219 rfl) rfl
theorem q1283 : (Jvm.Cond.static ({ cls := "java/lang/Integer", name := "valueOf", desc := "(I)Ljava/lang/Integer;" } : Jvm.MethodName)) ∈ lw_all := lw_g (lw_at lw_m5 220 rfl) rfl
theorem q1284 : (Jvm.Cond.code ({ cls := "java/lang/Integer", name := "valueOf", desc := "(I)Ljava/lang/Integer;" } : Jvm.MethodName) prog_33_method_22_code (1 : Nat) (Option.some (Jvm.ClassFile.FieldType.object "java/lang/Integer"))) ∈ lw_all := lw_g (lw_at lw_m5 221 rfl) rfl
theorem q1285 : (Jvm.Cond.fieldLink "java/lang/Integer" (191 : Nat) "java/lang/Integer$IntegerCache" "high" "I") ∈ lw_all := lw_g (lw_at lw_m5 222 rfl) rfl
theorem q1287 : (Jvm.Cond.fieldLink "java/lang/Integer" (195 : Nat) "java/lang/Integer$IntegerCache" "cache" "[Ljava/lang/Integer;") ∈ lw_all := lw_g (lw_at lw_m5 224 rfl) rfl
theorem q1289 : (Jvm.Cond.classLink "java/lang/Integer" (1 : Nat) "java/lang/Integer") ∈ lw_all := lw_g (lw_at lw_m5 226 rfl) rfl
theorem q1290 : (Jvm.Cond.instantiable "java/lang/Integer" (1 : Nat)) ∈ lw_all := lw_g (lw_at lw_m5 227 rfl) rfl
theorem q1298 : (Jvm.Cond.fieldLink "java/lang/Integer" (205 : Nat) "java/lang/Integer" "value" "I") ∈ lw_all := lw_g (lw_at lw_m5 235 rfl) rfl
theorem q1302 : (Jvm.Cond.classLink "FastPlane$TreatyReader" (126 : Nat) "FastPlane$Order") ∈ lw_all := lw_g (lw_at lw_m5 239 rfl) rfl
theorem q1303 : (Jvm.Cond.instantiable "FastPlane$Order" (3 : Nat)) ∈ lw_all := lw_g (lw_at lw_m6 0 rfl) rfl
theorem q1304 : (Jvm.Cond.methodLink "FastPlane$TreatyReader" (128 : Nat) ({ cls := "FastPlane$Order", name := "<init>", desc := "(LFastPlane$Ex;ILFastPlane$Ex;)V" } : Jvm.MethodName)) ∈ lw_all := lw_g (lw_at lw_m6 1 rfl) rfl
theorem q1305 : (Jvm.Cond.instanceMethod ({ cls := "FastPlane$Order", name := "<init>", desc := "(LFastPlane$Ex;ILFastPlane$Ex;)V" } : Jvm.MethodName)) ∈ lw_all := lw_g (lw_at lw_m6 2 rfl) rfl
theorem q1306 : (Jvm.Cond.code ({ cls := "FastPlane$Order", name := "<init>", desc := "(LFastPlane$Ex;ILFastPlane$Ex;)V" } : Jvm.MethodName) prog_14_method_1_code (4 : Nat) (Option.none : Option Jvm.ClassFile.FieldType)) ∈ lw_all := lw_g (lw_at lw_m6 3 rfl) rfl
theorem q1307 : (Jvm.Cond.methodLinkNest "FastPlane$Order" (1 : Nat) ({ cls := "FastPlane$Ex", name := "<init>", desc := "()V" } : Jvm.MethodName) "FastPlane") ∈ lw_tbl := lw_at lw_m6 4 rfl
theorem u1307 : (Jvm.Cond.methodLinkNest "FastPlane$Order" (1 : Nat) ({ cls := "FastPlane$Ex", name := "<init>", desc := "()V" } : Jvm.MethodName) "FastPlane") ∈ lw_nw := List.mem_filter.mpr ⟨q1307, rfl⟩
theorem q1308 : (Jvm.Cond.fieldLink "FastPlane$Order" (7 : Nat) "FastPlane$Order" "a" "LFastPlane$Ex;") ∈ lw_all := lw_g (lw_at lw_m6 5 rfl) rfl
theorem q1309 : (Jvm.Cond.fieldLink "FastPlane$Order" (17 : Nat) "FastPlane$Order" "b" "LFastPlane$Ex;") ∈ lw_all := lw_g (lw_at lw_m6 6 rfl) rfl
theorem q1310 : (Jvm.Cond.fieldLink "FastPlane$Order" (13 : Nat) "FastPlane$Order" "sign" "I") ∈ lw_all := lw_g (lw_at lw_m6 7 rfl) rfl
theorem q1318 : (Jvm.Cond.methodLink "FastPlane$TreatyReader" (82 : Nat) ({ cls := "java/util/ArrayList", name := "add", desc := "(Ljava/lang/Object;)Z" } : Jvm.MethodName)) ∈ lw_all := lw_g (lw_at lw_m6 15 rfl) rfl
theorem q1320 : (Jvm.Cond.methodLink "FastPlane$TreatyReader" (88 : Nat) ({ cls := "FastPlane$TreatyReader", name := "may", desc := "(Ljava/lang/String;)Z" } : Jvm.MethodName)) ∈ lw_all := lw_g (lw_at lw_m6 17 rfl) rfl
theorem q1321 : (Jvm.Cond.sameMethod "FastPlane$TreatyReader" "FastPlane$Reader" "may" "(Ljava/lang/String;)Z") ∈ lw_all := lw_g (lw_at lw_m6 18 rfl) rfl
theorem q1322 : (Jvm.Cond.declares ({ cls := "FastPlane$Reader", name := "may", desc := "(Ljava/lang/String;)Z" } : Jvm.MethodName)) ∈ lw_tbl := lw_at lw_m6 19 rfl
theorem u1322 : (Jvm.Cond.declares ({ cls := "FastPlane$Reader", name := "may", desc := "(Ljava/lang/String;)Z" } : Jvm.MethodName)) ∈ lw_nw := List.mem_filter.mpr ⟨q1322, rfl⟩
theorem q1323 : (Jvm.Cond.selects "FastPlane$TreatyReader" ({ cls := "FastPlane$TreatyReader", name := "may", desc := "(Ljava/lang/String;)Z" } : Jvm.MethodName) ({ cls := "FastPlane$Reader", name := "may", desc := "(Ljava/lang/String;)Z" } : Jvm.MethodName)) ∈ lw_all := lw_g (lw_at lw_m6 20 rfl) rfl
theorem q1324 : (Jvm.Cond.instanceMethod ({ cls := "FastPlane$Reader", name := "may", desc := "(Ljava/lang/String;)Z" } : Jvm.MethodName)) ∈ lw_all := lw_g (lw_at lw_m6 21 rfl) rfl
theorem q1325 : (Jvm.Cond.code ({ cls := "FastPlane$Reader", name := "may", desc := "(Ljava/lang/String;)Z" } : Jvm.MethodName) prog_17_method_9_code (3 : Nat) (Option.some Jvm.ClassFile.FieldType.boolean)) ∈ lw_all := lw_g (lw_at lw_m6 22 rfl) rfl
theorem q1326 : (Jvm.Cond.methodLink "FastPlane$TreatyReader" (91 : Nat) ({ cls := "java/util/ArrayList", name := "size", desc := "()I" } : Jvm.MethodName)) ∈ lw_all := lw_g (lw_at lw_m6 23 rfl) rfl
theorem q1327 : (Jvm.Cond.methodLink "FastPlane$TreatyReader" (94 : Nat) ({ cls := "java/util/ArrayList", name := "get", desc := "(I)Ljava/lang/Object;" } : Jvm.MethodName)) ∈ lw_all := lw_g (lw_at lw_m6 24 rfl) rfl
theorem q1328 : (Jvm.Cond.classLink "FastPlane$TreatyReader" (98 : Nat) "FastPlane$Ex") ∈ lw_all := lw_g (lw_at lw_m6 25 rfl) rfl
theorem q1329 : (Jvm.Cond.classLink "FastPlane$TreatyReader" (100 : Nat) "FastPlane$Join") ∈ lw_all := lw_g (lw_at lw_m6 26 rfl) rfl
theorem q1330 : (Jvm.Cond.instantiable "FastPlane$Join" (2 : Nat)) ∈ lw_all := lw_g (lw_at lw_m6 27 rfl) rfl
theorem q1331 : (Jvm.Cond.methodLink "FastPlane$TreatyReader" (102 : Nat) ({ cls := "FastPlane$Join", name := "<init>", desc := "(Ljava/util/ArrayList;Z)V" } : Jvm.MethodName)) ∈ lw_all := lw_g (lw_at lw_m6 28 rfl) rfl
theorem q1332 : (Jvm.Cond.instanceMethod ({ cls := "FastPlane$Join", name := "<init>", desc := "(Ljava/util/ArrayList;Z)V" } : Jvm.MethodName)) ∈ lw_all := lw_g (lw_at lw_m6 29 rfl) rfl
theorem q1333 : (Jvm.Cond.code ({ cls := "FastPlane$Join", name := "<init>", desc := "(Ljava/util/ArrayList;Z)V" } : Jvm.MethodName) prog_8_method_1_code (3 : Nat) (Option.none : Option Jvm.ClassFile.FieldType)) ∈ lw_all := lw_g (lw_at lw_m6 30 rfl) rfl
theorem q1334 : (Jvm.Cond.methodLinkNest "FastPlane$Join" (1 : Nat) ({ cls := "FastPlane$Ex", name := "<init>", desc := "()V" } : Jvm.MethodName) "FastPlane") ∈ lw_tbl := lw_at lw_m6 31 rfl
theorem u1334 : (Jvm.Cond.methodLinkNest "FastPlane$Join" (1 : Nat) ({ cls := "FastPlane$Ex", name := "<init>", desc := "()V" } : Jvm.MethodName) "FastPlane") ∈ lw_nw := List.mem_filter.mpr ⟨q1334, rfl⟩
theorem q1335 : (Jvm.Cond.fieldLink "FastPlane$Join" (7 : Nat) "FastPlane$Join" "of" "Ljava/util/ArrayList;") ∈ lw_all := lw_g (lw_at lw_m6 32 rfl) rfl
theorem q1336 : (Jvm.Cond.fieldLink "FastPlane$Join" (13 : Nat) "FastPlane$Join" "all" "Z") ∈ lw_all := lw_g (lw_at lw_m6 33 rfl) rfl
theorem q1343 : (Jvm.Cond.methodLink "FastPlaneLaw" (32 : Nat) ({ cls := "FastPlane", name := "fault", desc := "(I)I" } : Jvm.MethodName)) ∈ lw_all := lw_g (lw_at lw_m6 40 rfl) rfl
theorem q1344 : (Jvm.Cond.instanceMethod ({ cls := "FastPlane", name := "fault", desc := "(I)I" } : Jvm.MethodName)) ∈ lw_all := lw_g (lw_at lw_m6 41 rfl) rfl
theorem q1345 : (Jvm.Cond.selects "FastPlane" ({ cls := "FastPlane", name := "fault", desc := "(I)I" } : Jvm.MethodName) ({ cls := "FastPlane", name := "fault", desc := "(I)I" } : Jvm.MethodName)) ∈ lw_all := lw_g (lw_at lw_m6 42 rfl) rfl
theorem q1346 : (Jvm.Cond.code ({ cls := "FastPlane", name := "fault", desc := "(I)I" } : Jvm.MethodName) prog_1_method_11_code (2 : Nat) (Option.some Jvm.ClassFile.FieldType.int)) ∈ lw_all := lw_g (lw_at lw_m6 43 rfl) rfl
theorem q1347 : (Jvm.Cond.methodLink "FastPlaneLaw" (36 : Nat) ({ cls := "FastPlane", name := "mm", desc := "(II)I" } : Jvm.MethodName)) ∈ lw_all := lw_g (lw_at lw_m6 44 rfl) rfl
theorem q1348 : (Jvm.Cond.instanceMethod ({ cls := "FastPlane", name := "mm", desc := "(II)I" } : Jvm.MethodName)) ∈ lw_all := lw_g (lw_at lw_m6 45 rfl) rfl
theorem q1349 : (Jvm.Cond.selects "FastPlane" ({ cls := "FastPlane", name := "mm", desc := "(II)I" } : Jvm.MethodName) ({ cls := "FastPlane", name := "mm", desc := "(II)I" } : Jvm.MethodName)) ∈ lw_all := lw_g (lw_at lw_m6 46 rfl) rfl
theorem q1350 : (Jvm.Cond.code ({ cls := "FastPlane", name := "mm", desc := "(II)I" } : Jvm.MethodName) prog_1_method_14_code (3 : Nat) (Option.some Jvm.ClassFile.FieldType.int)) ∈ lw_all := lw_g (lw_at lw_m6 47 rfl) rfl
theorem q1351 : (Jvm.Cond.methodLink "FastPlane" (190 : Nat) ({ cls := "FastPlane", name := "partAt", desc := "(I)LFastPlane$Part;" } : Jvm.MethodName)) ∈ lw_all := lw_g (lw_at lw_m6 48 rfl) rfl
theorem q1352 : (Jvm.Cond.privateMethod ({ cls := "FastPlane", name := "partAt", desc := "(I)LFastPlane$Part;" } : Jvm.MethodName)) ∈ lw_tbl := lw_at lw_m6 49 rfl
theorem u1352 : (Jvm.Cond.privateMethod ({ cls := "FastPlane", name := "partAt", desc := "(I)LFastPlane$Part;" } : Jvm.MethodName)) ∈ lw_nw := List.mem_filter.mpr ⟨q1352, rfl⟩
theorem q1353 : (Jvm.Cond.instanceMethod ({ cls := "FastPlane", name := "partAt", desc := "(I)LFastPlane$Part;" } : Jvm.MethodName)) ∈ lw_all := lw_g (lw_at lw_m6 50 rfl) rfl
theorem q1354 : (Jvm.Cond.code ({ cls := "FastPlane", name := "partAt", desc := "(I)LFastPlane$Part;" } : Jvm.MethodName) prog_1_method_12_code (2 : Nat) (Option.some (Jvm.ClassFile.FieldType.object "FastPlane$Part"))) ∈ lw_all := lw_g (lw_at lw_m6 51 rfl) rfl
theorem q1355 : (Jvm.Cond.methodLink "FastPlane" (181 : Nat) ({ cls := "java/util/ArrayList", name := "size", desc := "()I" } : Jvm.MethodName)) ∈ lw_all := lw_g (lw_at lw_m6 52 rfl) rfl
theorem q1356 : (Jvm.Cond.methodLink "FastPlane" (184 : Nat) ({ cls := "java/util/ArrayList", name := "get", desc := "(I)Ljava/lang/Object;" } : Jvm.MethodName)) ∈ lw_all := lw_g (lw_at lw_m6 53 rfl) rfl
theorem q1357 : (Jvm.Cond.classLink "FastPlane" (188 : Nat) "FastPlane$Part") ∈ lw_all := lw_g (lw_at lw_m6 54 rfl) rfl
theorem q1358 : (Jvm.Cond.methodLink "FastPlane" (194 : Nat) ({ cls := "FastPlane", name := "isSpeed", desc := "(I)Z" } : Jvm.MethodName)) ∈ lw_all := lw_g (lw_at lw_m6 55 rfl) rfl
theorem q1359 : (Jvm.Cond.static ({ cls := "FastPlane", name := "isSpeed", desc := "(I)Z" } : Jvm.MethodName)) ∈ lw_all := lw_g (lw_at lw_m6 56 rfl) rfl
theorem q1360 : (Jvm.Cond.code ({ cls := "FastPlane", name := "isSpeed", desc := "(I)Z" } : Jvm.MethodName) prog_1_method_13_code (1 : Nat) (Option.some Jvm.ClassFile.FieldType.boolean)) ∈ lw_all := lw_g (lw_at lw_m6 57 rfl) rfl
theorem q1361 : (Jvm.Cond.methodLink "FastPlane" (197 : Nat) ({ cls := "FastPlane$Part", name := "at", desc := "(I)I" } : Jvm.MethodName)) ∈ lw_all := lw_g (lw_at lw_m6 58 rfl) rfl
theorem q1362 : (Jvm.Cond.instanceMethod ({ cls := "FastPlane$Part", name := "at", desc := "(I)I" } : Jvm.MethodName)) ∈ lw_all := lw_g (lw_at lw_m6 59 rfl) rfl
theorem q1364 : (Jvm.Cond.selects "FastPlane$Imperial" ({ cls := "FastPlane$Part", name := "at", desc := "(I)I" } : Jvm.MethodName) ({ cls := "FastPlane$Part", name := "at", desc := "(I)I" } : Jvm.MethodName)) ∈ lw_all := lw_g (lw_at lw_m6 61 rfl) rfl
theorem q1365 : (Jvm.Cond.selects "FastPlane$Metric" ({ cls := "FastPlane$Part", name := "at", desc := "(I)I" } : Jvm.MethodName) ({ cls := "FastPlane$Part", name := "at", desc := "(I)I" } : Jvm.MethodName)) ∈ lw_all := lw_g (lw_at lw_m6 62 rfl) rfl
theorem q1366 : (Jvm.Cond.code ({ cls := "FastPlane$Part", name := "at", desc := "(I)I" } : Jvm.MethodName) prog_15_method_3_code (4 : Nat) (Option.some Jvm.ClassFile.FieldType.int)) ∈ lw_all := lw_g (lw_at lw_m6 63 rfl) rfl
theorem q1367 : (Jvm.Cond.methodLink "FastPlane$Part" (29 : Nat) ({ cls := "FastPlane$Part", name := "millimetres", desc := "()I" } : Jvm.MethodName)) ∈ lw_all := lw_g (lw_at lw_m6 64 rfl) rfl
theorem q1368 : (Jvm.Cond.declares ({ cls := "FastPlane$Part", name := "millimetres", desc := "()I" } : Jvm.MethodName)) ∈ lw_tbl := lw_at lw_m6 65 rfl
theorem u1368 : (Jvm.Cond.declares ({ cls := "FastPlane$Part", name := "millimetres", desc := "()I" } : Jvm.MethodName)) ∈ lw_nw := List.mem_filter.mpr ⟨q1368, rfl⟩
theorem q1369 : (Jvm.Cond.sameMethod "FastPlane$Part" "FastPlane$Part" "millimetres" "()I") ∈ lw_all := lw_g (lw_at lw_m6 66 rfl) rfl
theorem q1370 : (Jvm.Cond.selects "FastPlane$Imperial" ({ cls := "FastPlane$Part", name := "millimetres", desc := "()I" } : Jvm.MethodName) ({ cls := "FastPlane$Imperial", name := "millimetres", desc := "()I" } : Jvm.MethodName)) ∈ lw_all := lw_g (lw_at lw_m6 67 rfl) rfl
theorem q1371 : (Jvm.Cond.instanceMethod ({ cls := "FastPlane$Imperial", name := "millimetres", desc := "()I" } : Jvm.MethodName)) ∈ lw_all := lw_g (lw_at lw_m6 68 rfl) rfl
theorem q1372 : (Jvm.Cond.code ({ cls := "FastPlane$Imperial", name := "millimetres", desc := "()I" } : Jvm.MethodName) prog_7_method_2_code (1 : Nat) (Option.some Jvm.ClassFile.FieldType.int)) ∈ lw_all := lw_g (lw_at lw_m6 69 rfl) rfl
theorem q1373 : (Jvm.Cond.selects "FastPlane$Metric" ({ cls := "FastPlane$Part", name := "millimetres", desc := "()I" } : Jvm.MethodName) ({ cls := "FastPlane$Metric", name := "millimetres", desc := "()I" } : Jvm.MethodName)) ∈ lw_all := lw_g (lw_at lw_m6 70 rfl) rfl
theorem q1374 : (Jvm.Cond.instanceMethod ({ cls := "FastPlane$Metric", name := "millimetres", desc := "()I" } : Jvm.MethodName)) ∈ lw_all := lw_g (lw_at lw_m6 71 rfl) rfl
theorem q1375 : (Jvm.Cond.code ({ cls := "FastPlane$Metric", name := "millimetres", desc := "()I" } : Jvm.MethodName) prog_12_method_2_code (1 : Nat) (Option.some Jvm.ClassFile.FieldType.int)) ∈ lw_all := lw_g (lw_at lw_m6 72 rfl) rfl
theorem q1376 : (Jvm.Cond.constantLong "FastPlane$Part" (33 : Nat) (100000 : Int64)) ∈ lw_all := lw_g (lw_at lw_m6 73 rfl) rfl
theorem q1377 : (Jvm.Cond.methodLink "FastPlaneLaw" (41 : Nat) ({ cls := "FastPlane", name := "clash", desc := "(I)I" } : Jvm.MethodName)) ∈ lw_all := lw_g (lw_at lw_m6 74 rfl) rfl
theorem q1378 : (Jvm.Cond.instanceMethod ({ cls := "FastPlane", name := "clash", desc := "(I)I" } : Jvm.MethodName)) ∈ lw_all := lw_g (lw_at lw_m6 75 rfl) rfl
theorem q1379 : (Jvm.Cond.selects "FastPlane" ({ cls := "FastPlane", name := "clash", desc := "(I)I" } : Jvm.MethodName) ({ cls := "FastPlane", name := "clash", desc := "(I)I" } : Jvm.MethodName)) ∈ lw_all := lw_g (lw_at lw_m6 76 rfl) rfl
theorem q1380 : (Jvm.Cond.code ({ cls := "FastPlane", name := "clash", desc := "(I)I" } : Jvm.MethodName) prog_1_method_15_code (4 : Nat) (Option.some Jvm.ClassFile.FieldType.int)) ∈ lw_all := lw_g (lw_at lw_m6 77 rfl) rfl
theorem q1381 : (Jvm.Cond.classLink "FastPlane" (204 : Nat) "FastPlane$Link") ∈ lw_all := lw_g (lw_at lw_m6 78 rfl) rfl
theorem q1382 : (Jvm.Cond.methodLink "FastPlane" (206 : Nat) ({ cls := "FastPlane$Link", name := "fits", desc := "(I)Z" } : Jvm.MethodName)) ∈ lw_all := lw_g (lw_at lw_m6 79 rfl) rfl
theorem q1383 : (Jvm.Cond.instanceMethod ({ cls := "FastPlane$Link", name := "fits", desc := "(I)Z" } : Jvm.MethodName)) ∈ lw_all := lw_g (lw_at lw_m6 80 rfl) rfl
theorem q1384 : (Jvm.Cond.selects "FastPlane$Link" ({ cls := "FastPlane$Link", name := "fits", desc := "(I)Z" } : Jvm.MethodName) ({ cls := "FastPlane$Link", name := "fits", desc := "(I)Z" } : Jvm.MethodName)) ∈ lw_all := lw_g (lw_at lw_m6 81 rfl) rfl
theorem q1385 : (Jvm.Cond.code ({ cls := "FastPlane$Link", name := "fits", desc := "(I)Z" } : Jvm.MethodName) prog_9_method_2_code (2 : Nat) (Option.some Jvm.ClassFile.FieldType.boolean)) ∈ lw_all := lw_g (lw_at lw_m6 82 rfl) rfl
theorem q1386 : (Jvm.Cond.methodLink "FastPlane$Link" (20 : Nat) ({ cls := "FastPlane$Part", name := "at", desc := "(I)I" } : Jvm.MethodName)) ∈ lw_all := lw_g (lw_at lw_m6 83 rfl) rfl
theorem q1387 : (Jvm.Cond.methodLink "FastPlane$Link" (26 : Nat) ({ cls := "java/lang/Math", name := "abs", desc := "(I)I" } : Jvm.MethodName)) ∈ lw_all := lw_g (lw_at lw_m6 84 rfl) rfl
theorem q1388 : (Jvm.Cond.static ({ cls := "java/lang/Math", name := "abs", desc := "(I)I" } : Jvm.MethodName)) ∈ lw_all := lw_g (lw_at lw_m6 85 rfl) rfl
theorem q1389 : (Jvm.Cond.code ({ cls := "java/lang/Math", name := "abs", desc := "(I)I" } : Jvm.MethodName) prog_36_method_59_code (1 : Nat) (Option.some Jvm.ClassFile.FieldType.int)) ∈ lw_all := lw_g (lw_at lw_m6 86 rfl) rfl
theorem q1390 : (Jvm.Cond.methodLink "FastPlaneLaw" (45 : Nat) ({ cls := "FastPlane", name := "breaks", desc := "(I)I" } : Jvm.MethodName)) ∈ lw_all := lw_g (lw_at lw_m6 87 rfl) rfl
theorem q1391 : (Jvm.Cond.instanceMethod ({ cls := "FastPlane", name := "breaks", desc := "(I)I" } : Jvm.MethodName)) ∈ lw_all := lw_g (lw_at lw_m6 88 rfl) rfl
theorem q1392 : (Jvm.Cond.selects "FastPlane" ({ cls := "FastPlane", name := "breaks", desc := "(I)I" } : Jvm.MethodName) ({ cls := "FastPlane", name := "breaks", desc := "(I)I" } : Jvm.MethodName)) ∈ lw_all := lw_g (lw_at lw_m6 89 rfl) rfl
theorem q1393 : (Jvm.Cond.code ({ cls := "FastPlane", name := "breaks", desc := "(I)I" } : Jvm.MethodName) prog_1_method_16_code (3 : Nat) (Option.some Jvm.ClassFile.FieldType.int)) ∈ lw_all := lw_g (lw_at lw_m6 90 rfl) rfl
theorem q1394 : (Jvm.Cond.methodLink "FastPlaneLaw" (49 : Nat) ({ cls := "FastPlane", name := "mend", desc := "(I)I" } : Jvm.MethodName)) ∈ lw_all := lw_g (lw_at lw_m6 91 rfl) rfl
theorem q1395 : (Jvm.Cond.instanceMethod ({ cls := "FastPlane", name := "mend", desc := "(I)I" } : Jvm.MethodName)) ∈ lw_all := lw_g (lw_at lw_m6 92 rfl) rfl
theorem q1396 : (Jvm.Cond.selects "FastPlane" ({ cls := "FastPlane", name := "mend", desc := "(I)I" } : Jvm.MethodName) ({ cls := "FastPlane", name := "mend", desc := "(I)I" } : Jvm.MethodName)) ∈ lw_all := lw_g (lw_at lw_m6 93 rfl) rfl
theorem q1397 : (Jvm.Cond.code ({ cls := "FastPlane", name := "mend", desc := "(I)I" } : Jvm.MethodName) prog_1_method_19_code (2 : Nat) (Option.some Jvm.ClassFile.FieldType.int)) ∈ lw_all := lw_g (lw_at lw_m6 94 rfl) rfl
theorem q1398 : (Jvm.Cond.methodLink "FastPlane" (240 : Nat) ({ cls := "FastPlane", name := "seekMend", desc := "()V" } : Jvm.MethodName)) ∈ lw_all := lw_g (lw_at lw_m6 95 rfl) rfl
theorem q1399 : (Jvm.Cond.privateMethod ({ cls := "FastPlane", name := "seekMend", desc := "()V" } : Jvm.MethodName)) ∈ lw_tbl := lw_at lw_m6 96 rfl
theorem u1399 : (Jvm.Cond.privateMethod ({ cls := "FastPlane", name := "seekMend", desc := "()V" } : Jvm.MethodName)) ∈ lw_nw := List.mem_filter.mpr ⟨q1399, rfl⟩
theorem q1400 : (Jvm.Cond.instanceMethod ({ cls := "FastPlane", name := "seekMend", desc := "()V" } : Jvm.MethodName)) ∈ lw_all := lw_g (lw_at lw_m6 97 rfl) rfl
theorem q1401 : (Jvm.Cond.code ({ cls := "FastPlane", name := "seekMend", desc := "()V" } : Jvm.MethodName) prog_1_method_18_code (7 : Nat) (Option.none : Option Jvm.ClassFile.FieldType)) ∈ lw_all := lw_g (lw_at lw_m6 98 rfl) rfl
theorem q1402 : (Jvm.Cond.methodLink "FastPlane" (230 : Nat) ({ cls := "FastPlane", name := "fitting", desc := "(LFastPlane$Part;I)I" } : Jvm.MethodName)) ∈ lw_all := lw_g (lw_at lw_m6 99 rfl) rfl
theorem q1403 : (Jvm.Cond.privateMethod ({ cls := "FastPlane", name := "fitting", desc := "(LFastPlane$Part;I)I" } : Jvm.MethodName)) ∈ lw_tbl := lw_at lw_m6 100 rfl
theorem u1403 : (Jvm.Cond.privateMethod ({ cls := "FastPlane", name := "fitting", desc := "(LFastPlane$Part;I)I" } : Jvm.MethodName)) ∈ lw_nw := List.mem_filter.mpr ⟨q1403, rfl⟩
theorem q1404 : (Jvm.Cond.instanceMethod ({ cls := "FastPlane", name := "fitting", desc := "(LFastPlane$Part;I)I" } : Jvm.MethodName)) ∈ lw_all := lw_g (lw_at lw_m6 101 rfl) rfl
theorem q1405 : (Jvm.Cond.code ({ cls := "FastPlane", name := "fitting", desc := "(LFastPlane$Part;I)I" } : Jvm.MethodName) prog_1_method_17_code (8 : Nat) (Option.some Jvm.ClassFile.FieldType.int)) ∈ lw_all := lw_g (lw_at lw_m6 102 rfl) rfl
theorem q1406 : (Jvm.Cond.methodLink "FastPlane" (213 : Nat) ({ cls := "FastPlane$Part", name := "millimetres", desc := "()I" } : Jvm.MethodName)) ∈ lw_all := lw_g (lw_at lw_m6 103 rfl) rfl
theorem q1407 : (Jvm.Cond.methodLink "FastPlane" (219 : Nat) ({ cls := "java/lang/Math", name := "abs", desc := "(I)I" } : Jvm.MethodName)) ∈ lw_all := lw_g (lw_at lw_m6 104 rfl) rfl
theorem q1408 : (Jvm.Cond.methodLink "FastPlaneLaw" (53 : Nat) ({ cls := "FastPlane", name := "unlike", desc := "(IIZ)I" } : Jvm.MethodName)) ∈ lw_all := lw_g (lw_at lw_m6 105 rfl) rfl
theorem q1409 : (Jvm.Cond.instanceMethod ({ cls := "FastPlane", name := "unlike", desc := "(IIZ)I" } : Jvm.MethodName)) ∈ lw_all := lw_g (lw_at lw_m6 106 rfl) rfl
theorem q1410 : (Jvm.Cond.selects "FastPlane" ({ cls := "FastPlane", name := "unlike", desc := "(IIZ)I" } : Jvm.MethodName) ({ cls := "FastPlane", name := "unlike", desc := "(IIZ)I" } : Jvm.MethodName)) ∈ lw_all := lw_g (lw_at lw_m6 107 rfl) rfl
theorem q1411 : (Jvm.Cond.code ({ cls := "FastPlane", name := "unlike", desc := "(IIZ)I" } : Jvm.MethodName) prog_1_method_22_code (7 : Nat) (Option.some Jvm.ClassFile.FieldType.int)) ∈ lw_all := lw_g (lw_at lw_m6 108 rfl) rfl
theorem q1412 : (Jvm.Cond.methodLink "FastPlane" (247 : Nat) ({ cls := "FastPlane", name := "mayLeave", desc := "(III)Z" } : Jvm.MethodName)) ∈ lw_all := lw_g (lw_at lw_m6 109 rfl) rfl
theorem q1413 : (Jvm.Cond.privateMethod ({ cls := "FastPlane", name := "mayLeave", desc := "(III)Z" } : Jvm.MethodName)) ∈ lw_tbl := lw_at lw_m6 110 rfl
theorem u1413 : (Jvm.Cond.privateMethod ({ cls := "FastPlane", name := "mayLeave", desc := "(III)Z" } : Jvm.MethodName)) ∈ lw_nw := List.mem_filter.mpr ⟨q1413, rfl⟩
theorem q1414 : (Jvm.Cond.instanceMethod ({ cls := "FastPlane", name := "mayLeave", desc := "(III)Z" } : Jvm.MethodName)) ∈ lw_all := lw_g (lw_at lw_m6 111 rfl) rfl
theorem q1415 : (Jvm.Cond.code ({ cls := "FastPlane", name := "mayLeave", desc := "(III)Z" } : Jvm.MethodName) prog_1_method_20_code (4 : Nat) (Option.some Jvm.ClassFile.FieldType.boolean)) ∈ lw_all := lw_g (lw_at lw_m6 112 rfl) rfl
theorem q1416 : (Jvm.Cond.methodLink "FastPlane" (243 : Nat) ({ cls := "FastPlane$Treaty", name := "holds", desc := "(IZ[I)Z" } : Jvm.MethodName)) ∈ lw_all := lw_g (lw_at lw_m6 113 rfl) rfl
theorem q1417 : (Jvm.Cond.instanceMethod ({ cls := "FastPlane$Treaty", name := "holds", desc := "(IZ[I)Z" } : Jvm.MethodName)) ∈ lw_all := lw_g (lw_at lw_m6 114 rfl) rfl
theorem q1418 : (Jvm.Cond.selects "FastPlane$Treaty" ({ cls := "FastPlane$Treaty", name := "holds", desc := "(IZ[I)Z" } : Jvm.MethodName) ({ cls := "FastPlane$Treaty", name := "holds", desc := "(IZ[I)Z" } : Jvm.MethodName)) ∈ lw_all := lw_g (lw_at lw_m6 115 rfl) rfl
theorem q1419 : (Jvm.Cond.code ({ cls := "FastPlane$Treaty", name := "holds", desc := "(IZ[I)Z" } : Jvm.MethodName) prog_19_method_2_code (4 : Nat) (Option.some Jvm.ClassFile.FieldType.boolean)) ∈ lw_all := lw_g (lw_at lw_m6 116 rfl) rfl
theorem q1420 : (Jvm.Cond.methodLink "FastPlane$Treaty" (17 : Nat) ({ cls := "FastPlane$Ex", name := "of", desc := "([I)I" } : Jvm.MethodName)) ∈ lw_all := lw_g (lw_at lw_m6 117 rfl) rfl
theorem q1421 : (Jvm.Cond.declares ({ cls := "FastPlane$Ex", name := "of", desc := "([I)I" } : Jvm.MethodName)) ∈ lw_tbl := lw_at lw_m6 118 rfl
theorem u1421 : (Jvm.Cond.declares ({ cls := "FastPlane$Ex", name := "of", desc := "([I)I" } : Jvm.MethodName)) ∈ lw_nw := List.mem_filter.mpr ⟨q1421, rfl⟩
theorem q1422 : (Jvm.Cond.sameMethod "FastPlane$Ex" "FastPlane$Ex" "of" "([I)I") ∈ lw_all := lw_g (lw_at lw_m6 119 rfl) rfl
theorem q1423 : (Jvm.Cond.selects "FastPlane$Chain" ({ cls := "FastPlane$Ex", name := "of", desc := "([I)I" } : Jvm.MethodName) ({ cls := "FastPlane$Chain", name := "of", desc := "([I)I" } : Jvm.MethodName)) ∈ lw_all := lw_g (lw_at lw_m6 120 rfl) rfl
theorem q1424 : (Jvm.Cond.instanceMethod ({ cls := "FastPlane$Chain", name := "of", desc := "([I)I" } : Jvm.MethodName)) ∈ lw_all := lw_g (lw_at lw_m6 121 rfl) rfl
theorem q1425 : (Jvm.Cond.code ({ cls := "FastPlane$Chain", name := "of", desc := "([I)I" } : Jvm.MethodName) prog_2_method_3_code (6 : Nat) (Option.some Jvm.ClassFile.FieldType.int)) ∈ lw_all := lw_g (lw_at lw_m6 122 rfl) rfl
theorem q1426 : (Jvm.Cond.methodLink "FastPlane$Chain" (31 : Nat) ({ cls := "java/util/ArrayList", name := "get", desc := "(I)Ljava/lang/Object;" } : Jvm.MethodName)) ∈ lw_all := lw_g (lw_at lw_m6 123 rfl) rfl
theorem q1427 : (Jvm.Cond.classLink "FastPlane$Chain" (2 : Nat) "FastPlane$Ex") ∈ lw_all := lw_g (lw_at lw_m6 124 rfl) rfl
theorem q1428 : (Jvm.Cond.methodLink "FastPlane$Chain" (35 : Nat) ({ cls := "FastPlane$Ex", name := "of", desc := "([I)I" } : Jvm.MethodName)) ∈ lw_all := lw_g (lw_at lw_m6 125 rfl) rfl
theorem q1429 : (Jvm.Cond.instanceMethod ({ cls := "FastPlane$Join", name := "of", desc := "([I)I" } : Jvm.MethodName)) ∈ lw_all := lw_g (lw_at lw_m6 126 rfl) rfl
theorem q1430 : (Jvm.Cond.code ({ cls := "FastPlane$Join", name := "of", desc := "([I)I" } : Jvm.MethodName) prog_8_method_2_code (4 : Nat) (Option.some Jvm.ClassFile.FieldType.int)) ∈ lw_all := lw_g (lw_at lw_m6 127 rfl) rfl
theorem q1431 : (Jvm.Cond.methodLink "FastPlane$Join" (17 : Nat) ({ cls := "java/util/ArrayList", name := "size", desc := "()I" } : Jvm.MethodName)) ∈ lw_all := lw_g (lw_at lw_m6 128 rfl) rfl
theorem q1432 : (Jvm.Cond.methodLink "FastPlane$Join" (23 : Nat) ({ cls := "java/util/ArrayList", name := "get", desc := "(I)Ljava/lang/Object;" } : Jvm.MethodName)) ∈ lw_all := lw_g (lw_at lw_m6 129 rfl) rfl
theorem q1433 : (Jvm.Cond.classLink "FastPlane$Join" (2 : Nat) "FastPlane$Ex") ∈ lw_all := lw_g (lw_at lw_m6 130 rfl) rfl
theorem q1434 : (Jvm.Cond.methodLink "FastPlane$Join" (27 : Nat) ({ cls := "FastPlane$Ex", name := "of", desc := "([I)I" } : Jvm.MethodName)) ∈ lw_all := lw_g (lw_at lw_m6 131 rfl) rfl
theorem q1435 : (Jvm.Cond.instanceMethod ({ cls := "FastPlane$Not", name := "of", desc := "([I)I" } : Jvm.MethodName)) ∈ lw_all := lw_g (lw_at lw_m6 132 rfl) rfl
theorem q1436 : (Jvm.Cond.code ({ cls := "FastPlane$Not", name := "of", desc := "([I)I" } : Jvm.MethodName) prog_13_method_2_code (2 : Nat) (Option.some Jvm.ClassFile.FieldType.int)) ∈ lw_all := lw_g (lw_at lw_m6 133 rfl) rfl
theorem q1437 : (Jvm.Cond.methodLink "FastPlane$Not" (13 : Nat) ({ cls := "FastPlane$Ex", name := "of", desc := "([I)I" } : Jvm.MethodName)) ∈ lw_all := lw_g (lw_at lw_m6 134 rfl) rfl
theorem q1438 : (Jvm.Cond.instanceMethod ({ cls := "FastPlane$Order", name := "of", desc := "([I)I" } : Jvm.MethodName)) ∈ lw_all := lw_g (lw_at lw_m6 135 rfl) rfl
theorem q1439 : (Jvm.Cond.code ({ cls := "FastPlane$Order", name := "of", desc := "([I)I" } : Jvm.MethodName) prog_14_method_2_code (4 : Nat) (Option.some Jvm.ClassFile.FieldType.int)) ∈ lw_all := lw_g (lw_at lw_m6 136 rfl) rfl
theorem q1440 : (Jvm.Cond.methodLink "FastPlane$Order" (20 : Nat) ({ cls := "FastPlane$Ex", name := "of", desc := "([I)I" } : Jvm.MethodName)) ∈ lw_all := lw_g (lw_at lw_m6 137 rfl) rfl
theorem q1441 : (Jvm.Cond.instanceMethod ({ cls := "FastPlane$Plain", name := "of", desc := "([I)I" } : Jvm.MethodName)) ∈ lw_all := lw_g (lw_at lw_m6 138 rfl) rfl
theorem q1442 : (Jvm.Cond.code ({ cls := "FastPlane$Plain", name := "of", desc := "([I)I" } : Jvm.MethodName) prog_16_method_2_code (2 : Nat) (Option.some Jvm.ClassFile.FieldType.int)) ∈ lw_all := lw_g (lw_at lw_m6 139 rfl) rfl
theorem q1443 : (Jvm.Cond.instanceMethod ({ cls := "FastPlane$Word", name := "of", desc := "([I)I" } : Jvm.MethodName)) ∈ lw_all := lw_g (lw_at lw_m6 140 rfl) rfl
theorem q1444 : (Jvm.Cond.code ({ cls := "FastPlane$Word", name := "of", desc := "([I)I" } : Jvm.MethodName) prog_21_method_2_code (2 : Nat) (Option.some Jvm.ClassFile.FieldType.int)) ∈ lw_all := lw_g (lw_at lw_m6 141 rfl) rfl
theorem q1445 : (Jvm.Cond.methodLink "FastPlane$Chain" (39 : Nat) ({ cls := "java/util/ArrayList", name := "size", desc := "()I" } : Jvm.MethodName)) ∈ lw_all := lw_g (lw_at lw_m6 142 rfl) rfl
theorem q1446 : (Jvm.Cond.classLink "FastPlane$Chain" (26 : Nat) "java/lang/Integer") ∈ lw_all := lw_g (lw_at lw_m6 143 rfl) rfl
theorem q1447 : (Jvm.Cond.methodLink "FastPlane$Chain" (43 : Nat) ({ cls := "java/lang/Integer", name := "intValue", desc := "()I" } : Jvm.MethodName)) ∈ lw_all := lw_g (lw_at lw_m6 144 rfl) rfl
theorem q1448 : (Jvm.Cond.instanceMethod ({ cls := "java/lang/Integer", name := "intValue", desc := "()I" } : Jvm.MethodName)) ∈ lw_all := lw_g (lw_at lw_m6 145 rfl) rfl
theorem q1449 : (Jvm.Cond.selects "java/lang/Integer" ({ cls := "java/lang/Integer", name := "intValue", desc := "()I" } : Jvm.MethodName) ({ cls := "java/lang/Integer", name := "intValue", desc := "()I" } : Jvm.MethodName)) ∈ lw_all := lw_g (lw_at lw_m6 146 rfl) rfl
theorem q1450 : (Jvm.Cond.code ({ cls := "java/lang/Integer", name := "intValue", desc := "()I" } : Jvm.MethodName) prog_33_method_27_code (1 : Nat) (Option.some Jvm.ClassFile.FieldType.int)) ∈ lw_all := lw_g (lw_at lw_m6 147 rfl) rfl
theorem q1451 : (Jvm.Cond.selects "FastPlane$Join" ({ cls := "FastPlane$Ex", name := "of", desc := "([I)I" } : Jvm.MethodName) ({ cls := "FastPlane$Join", name := "of", desc := "([I)I" } : Jvm.MethodName)) ∈ lw_all := lw_g (lw_at lw_m6 148 rfl) rfl
theorem q1452 : (Jvm.Cond.selects "FastPlane$Not" ({ cls := "FastPlane$Ex", name := "of", desc := "([I)I" } : Jvm.MethodName) ({ cls := "FastPlane$Not", name := "of", desc := "([I)I" } : Jvm.MethodName)) ∈ lw_all := lw_g (lw_at lw_m6 149 rfl) rfl
theorem q1453 : (Jvm.Cond.selects "FastPlane$Order" ({ cls := "FastPlane$Ex", name := "of", desc := "([I)I" } : Jvm.MethodName) ({ cls := "FastPlane$Order", name := "of", desc := "([I)I" } : Jvm.MethodName)) ∈ lw_all := lw_g (lw_at lw_m6 150 rfl) rfl
theorem q1454 : (Jvm.Cond.selects "FastPlane$Plain" ({ cls := "FastPlane$Ex", name := "of", desc := "([I)I" } : Jvm.MethodName) ({ cls := "FastPlane$Plain", name := "of", desc := "([I)I" } : Jvm.MethodName)) ∈ lw_all := lw_g (lw_at lw_m6 151 rfl) rfl
theorem q1455 : (Jvm.Cond.selects "FastPlane$Word" ({ cls := "FastPlane$Ex", name := "of", desc := "([I)I" } : Jvm.MethodName) ({ cls := "FastPlane$Word", name := "of", desc := "([I)I" } : Jvm.MethodName)) ∈ lw_all := lw_g (lw_at lw_m6 152 rfl) rfl
theorem q1456 : (Jvm.Cond.methodLink "FastPlane" (250 : Nat) ({ cls := "FastPlane", name := "mayFly", desc := "(IIII)Z" } : Jvm.MethodName)) ∈ lw_all := lw_g (lw_at lw_m6 153 rfl) rfl
theorem q1457 : (Jvm.Cond.privateMethod ({ cls := "FastPlane", name := "mayFly", desc := "(IIII)Z" } : Jvm.MethodName)) ∈ lw_tbl := lw_at lw_m6 154 rfl
theorem u1457 : (Jvm.Cond.privateMethod ({ cls := "FastPlane", name := "mayFly", desc := "(IIII)Z" } : Jvm.MethodName)) ∈ lw_nw := List.mem_filter.mpr ⟨q1457, rfl⟩
theorem q1458 : (Jvm.Cond.instanceMethod ({ cls := "FastPlane", name := "mayFly", desc := "(IIII)Z" } : Jvm.MethodName)) ∈ lw_all := lw_g (lw_at lw_m6 155 rfl) rfl
theorem q1459 : (Jvm.Cond.code ({ cls := "FastPlane", name := "mayFly", desc := "(IIII)Z" } : Jvm.MethodName) prog_1_method_21_code (5 : Nat) (Option.some Jvm.ClassFile.FieldType.boolean)) ∈ lw_all := lw_g (lw_at lw_m6 156 rfl) rfl
theorem q1460 : (Jvm.Cond.methodLink "FastPlaneLaw" (58 : Nat) ({ cls := "FastPlane", name := "change", desc := "(II)I" } : Jvm.MethodName)) ∈ lw_all := lw_g (lw_at lw_m6 157 rfl) rfl
theorem q1461 : (Jvm.Cond.instanceMethod ({ cls := "FastPlane", name := "change", desc := "(II)I" } : Jvm.MethodName)) ∈ lw_all := lw_g (lw_at lw_m6 158 rfl) rfl
theorem q1462 : (Jvm.Cond.selects "FastPlane" ({ cls := "FastPlane", name := "change", desc := "(II)I" } : Jvm.MethodName) ({ cls := "FastPlane", name := "change", desc := "(II)I" } : Jvm.MethodName)) ∈ lw_all := lw_g (lw_at lw_m6 159 rfl) rfl
theorem q1463 : (Jvm.Cond.code ({ cls := "FastPlane", name := "change", desc := "(II)I" } : Jvm.MethodName) prog_1_method_25_code (3 : Nat) (Option.some Jvm.ClassFile.FieldType.int)) ∈ lw_all := lw_g (lw_at lw_m6 160 rfl) rfl
theorem q1464 : (Jvm.Cond.methodLink "FastPlane" (257 : Nat) ({ cls := "FastPlane", name := "isMonth", desc := "(I)Z" } : Jvm.MethodName)) ∈ lw_all := lw_g (lw_at lw_m6 161 rfl) rfl
theorem q1465 : (Jvm.Cond.static ({ cls := "FastPlane", name := "isMonth", desc := "(I)Z" } : Jvm.MethodName)) ∈ lw_all := lw_g (lw_at lw_m6 162 rfl) rfl
theorem q1466 : (Jvm.Cond.code ({ cls := "FastPlane", name := "isMonth", desc := "(I)Z" } : Jvm.MethodName) prog_1_method_23_code (1 : Nat) (Option.some Jvm.ClassFile.FieldType.boolean)) ∈ lw_all := lw_g (lw_at lw_m6 163 rfl) rfl
theorem q1467 : (Jvm.Cond.classLink "FastPlane" (260 : Nat) "FastPlane$Change") ∈ lw_all := lw_g (lw_at lw_m6 164 rfl) rfl
theorem q1468 : (Jvm.Cond.instantiable "FastPlane$Change" (4 : Nat)) ∈ lw_all := lw_g (lw_at lw_m6 165 rfl) rfl
theorem q1469 : (Jvm.Cond.methodLink "FastPlane" (265 : Nat) ({ cls := "FastPlane$Change", name := "<init>", desc := "(III)V" } : Jvm.MethodName)) ∈ lw_all := lw_g (lw_at lw_m6 166 rfl) rfl
theorem q1470 : (Jvm.Cond.instanceMethod ({ cls := "FastPlane$Change", name := "<init>", desc := "(III)V" } : Jvm.MethodName)) ∈ lw_all := lw_g (lw_at lw_m6 167 rfl) rfl
theorem q1471 : (Jvm.Cond.code ({ cls := "FastPlane$Change", name := "<init>", desc := "(III)V" } : Jvm.MethodName) prog_3_method_1_code (4 : Nat) (Option.none : Option Jvm.ClassFile.FieldType)) ∈ lw_all := lw_g (lw_at lw_m6 168 rfl) rfl
theorem q1472 : (Jvm.Cond.methodLink "FastPlane$Change" (1 : Nat) ({ cls := "FastPlane$Fact", name := "<init>", desc := "(II)V" } : Jvm.MethodName)) ∈ lw_all := lw_g (lw_at lw_m6 169 rfl) rfl
theorem q1473 : (Jvm.Cond.instanceMethod ({ cls := "FastPlane$Fact", name := "<init>", desc := "(II)V" } : Jvm.MethodName)) ∈ lw_all := lw_g (lw_at lw_m6 170 rfl) rfl
theorem q1474 : (Jvm.Cond.code ({ cls := "FastPlane$Fact", name := "<init>", desc := "(II)V" } : Jvm.MethodName) prog_6_method_1_code (3 : Nat) (Option.none : Option Jvm.ClassFile.FieldType)) ∈ lw_all := lw_g (lw_at lw_m6 171 rfl) rfl
theorem q1475 : (Jvm.Cond.methodLink "FastPlane$Fact" (3 : Nat) ({ cls := "java/lang/Object", name := "<init>", desc := "()V" } : Jvm.MethodName)) ∈ lw_all := lw_g (lw_at lw_m6 172 rfl) rfl
theorem q1476 : (Jvm.Cond.fieldLink "FastPlane$Change" (7 : Nat) "FastPlane$Change" "part" "I") ∈ lw_all := lw_g (lw_at lw_m6 173 rfl) rfl
theorem q1477 : (Jvm.Cond.fieldLink "FastPlane" (289 : Nat) "FastPlane$Change" "part" "I") ∈ lw_all := lw_g (lw_at lw_m6 174 rfl) rfl
theorem q1478 : (Jvm.Cond.fieldLink "FastPlane$Fact" (15 : Nat) "FastPlane$Fact" "month" "I") ∈ lw_all := lw_g (lw_at lw_m6 175 rfl) rfl
theorem q1479 : (Jvm.Cond.fieldLink "FastPlane" (292 : Nat) "FastPlane$Change" "month" "I") ∈ lw_all := lw_g (lw_at lw_m6 176 rfl) rfl
theorem q1480 : (Jvm.Cond.sameField "FastPlane$Change" "FastPlane$Fact" "month" "I") ∈ lw_all := lw_g (lw_at lw_m6 177 rfl) rfl
theorem q1481 : (Jvm.Cond.fieldLink "FastPlane" (320 : Nat) "FastPlane$Estimate" "month" "I") ∈ lw_all := lw_g (lw_at lw_m6 178 rfl) rfl
theorem q1482 : (Jvm.Cond.sameField "FastPlane$Estimate" "FastPlane$Fact" "month" "I") ∈ lw_all := lw_g (lw_at lw_m6 179 rfl) rfl
theorem q1483 : (Jvm.Cond.fieldLink "FastPlane" (362 : Nat) "FastPlane$Fact" "month" "I") ∈ lw_all := lw_g (lw_at lw_m6 180 rfl) rfl
theorem q1484 : (Jvm.Cond.fieldLink "FastPlane$Fact" (18 : Nat) "FastPlane$Fact" "told" "I") ∈ lw_all := lw_g (lw_at lw_m6 181 rfl) rfl
theorem q1485 : (Jvm.Cond.fieldLink "FastPlane$Fact" (9 : Nat) "FastPlane$Fact" "untold" "I") ∈ lw_all := lw_g (lw_at lw_m6 182 rfl) rfl
theorem q1495 : (Jvm.Cond.methodLink "FastPlane" (268 : Nat) ({ cls := "FastPlane", name := "tell", desc := "(ZLFastPlane$Fact;)I" } : Jvm.MethodName)) ∈ lw_all := lw_g (lw_at lw_m6 192 rfl) rfl
theorem q1496 : (Jvm.Cond.privateMethod ({ cls := "FastPlane", name := "tell", desc := "(ZLFastPlane$Fact;)I" } : Jvm.MethodName)) ∈ lw_tbl := lw_at lw_m6 193 rfl
theorem u1496 : (Jvm.Cond.privateMethod ({ cls := "FastPlane", name := "tell", desc := "(ZLFastPlane$Fact;)I" } : Jvm.MethodName)) ∈ lw_nw := List.mem_filter.mpr ⟨q1496, rfl⟩
theorem q1497 : (Jvm.Cond.instanceMethod ({ cls := "FastPlane", name := "tell", desc := "(ZLFastPlane$Fact;)I" } : Jvm.MethodName)) ∈ lw_all := lw_g (lw_at lw_m6 194 rfl) rfl
theorem q1498 : (Jvm.Cond.code ({ cls := "FastPlane", name := "tell", desc := "(ZLFastPlane$Fact;)I" } : Jvm.MethodName) prog_1_method_24_code (3 : Nat) (Option.some Jvm.ClassFile.FieldType.int)) ∈ lw_all := lw_g (lw_at lw_m6 195 rfl) rfl
theorem q1499 : (Jvm.Cond.methodLink "FastPlane" (254 : Nat) ({ cls := "java/util/ArrayList", name := "add", desc := "(Ljava/lang/Object;)Z" } : Jvm.MethodName)) ∈ lw_all := lw_g (lw_at lw_m6 196 rfl) rfl
theorem q1500 : (Jvm.Cond.methodLink "FastPlaneLaw" (62 : Nat) ({ cls := "FastPlane", name := "estimate", desc := "(II)I" } : Jvm.MethodName)) ∈ lw_all := lw_g (lw_at lw_m6 197 rfl) rfl
theorem q1501 : (Jvm.Cond.instanceMethod ({ cls := "FastPlane", name := "estimate", desc := "(II)I" } : Jvm.MethodName)) ∈ lw_all := lw_g (lw_at lw_m6 198 rfl) rfl
theorem q1502 : (Jvm.Cond.selects "FastPlane" ({ cls := "FastPlane", name := "estimate", desc := "(II)I" } : Jvm.MethodName) ({ cls := "FastPlane", name := "estimate", desc := "(II)I" } : Jvm.MethodName)) ∈ lw_all := lw_g (lw_at lw_m6 199 rfl) rfl
theorem q1503 : (Jvm.Cond.code ({ cls := "FastPlane", name := "estimate", desc := "(II)I" } : Jvm.MethodName) prog_1_method_26_code (3 : Nat) (Option.some Jvm.ClassFile.FieldType.int)) ∈ lw_all := lw_g (lw_at lw_m6 200 rfl) rfl
theorem q1504 : (Jvm.Cond.constant "FastPlane" (272 : Nat) (99999 : Int32)) ∈ lw_all := lw_g (lw_at lw_m6 201 rfl) rfl
theorem q1505 : (Jvm.Cond.classLink "FastPlane" (273 : Nat) "FastPlane$Estimate") ∈ lw_all := lw_g (lw_at lw_m6 202 rfl) rfl
theorem q1506 : (Jvm.Cond.instantiable "FastPlane$Estimate" (4 : Nat)) ∈ lw_all := lw_g (lw_at lw_m6 203 rfl) rfl
theorem q1507 : (Jvm.Cond.methodLink "FastPlane" (275 : Nat) ({ cls := "FastPlane$Estimate", name := "<init>", desc := "(III)V" } : Jvm.MethodName)) ∈ lw_all := lw_g (lw_at lw_m6 204 rfl) rfl
theorem q1508 : (Jvm.Cond.instanceMethod ({ cls := "FastPlane$Estimate", name := "<init>", desc := "(III)V" } : Jvm.MethodName)) ∈ lw_all := lw_g (lw_at lw_m6 205 rfl) rfl
theorem q1509 : (Jvm.Cond.code ({ cls := "FastPlane$Estimate", name := "<init>", desc := "(III)V" } : Jvm.MethodName) prog_4_method_1_code (4 : Nat) (Option.none : Option Jvm.ClassFile.FieldType)) ∈ lw_all := lw_g (lw_at lw_m6 206 rfl) rfl
theorem q1510 : (Jvm.Cond.methodLink "FastPlane$Estimate" (1 : Nat) ({ cls := "FastPlane$Fact", name := "<init>", desc := "(II)V" } : Jvm.MethodName)) ∈ lw_all := lw_g (lw_at lw_m6 207 rfl) rfl
theorem q1511 : (Jvm.Cond.fieldLink "FastPlane$Estimate" (7 : Nat) "FastPlane$Estimate" "cost" "I") ∈ lw_all := lw_g (lw_at lw_m6 208 rfl) rfl
theorem q1512 : (Jvm.Cond.fieldLink "FastPlane" (321 : Nat) "FastPlane$Estimate" "cost" "I") ∈ lw_all := lw_g (lw_at lw_m6 209 rfl) rfl
theorem q1519 : (Jvm.Cond.methodLink "FastPlaneLaw" (66 : Nat) ({ cls := "FastPlane", name := "show", desc := "(II)I" } : Jvm.MethodName)) ∈ lw_all := lw_g (lw_at lw_m6 216 rfl) rfl
theorem q1520 : (Jvm.Cond.instanceMethod ({ cls := "FastPlane", name := "show", desc := "(II)I" } : Jvm.MethodName)) ∈ lw_all := lw_g (lw_at lw_m6 217 rfl) rfl
theorem q1521 : (Jvm.Cond.selects "FastPlane" ({ cls := "FastPlane", name := "show", desc := "(II)I" } : Jvm.MethodName) ({ cls := "FastPlane", name := "show", desc := "(II)I" } : Jvm.MethodName)) ∈ lw_all := lw_g (lw_at lw_m6 218 rfl) rfl
theorem q1522 : (Jvm.Cond.code ({ cls := "FastPlane", name := "show", desc := "(II)I" } : Jvm.MethodName) prog_1_method_27_code (3 : Nat) (Option.some Jvm.ClassFile.FieldType.int)) ∈ lw_all := lw_g (lw_at lw_m6 219 rfl) rfl
theorem q1523 : (Jvm.Cond.classLink "FastPlane" (276 : Nat) "FastPlane$Show") ∈ lw_all := lw_g (lw_at lw_m6 220 rfl) rfl
theorem q1524 : (Jvm.Cond.instantiable "FastPlane$Show" (4 : Nat)) ∈ lw_all := lw_g (lw_at lw_m6 221 rfl) rfl
theorem q1525 : (Jvm.Cond.methodLink "FastPlane" (278 : Nat) ({ cls := "FastPlane$Show", name := "<init>", desc := "(III)V" } : Jvm.MethodName)) ∈ lw_all := lw_g (lw_at lw_m6 222 rfl) rfl
theorem q1526 : (Jvm.Cond.instanceMethod ({ cls := "FastPlane$Show", name := "<init>", desc := "(III)V" } : Jvm.MethodName)) ∈ lw_all := lw_g (lw_at lw_m6 223 rfl) rfl
theorem q1527 : (Jvm.Cond.code ({ cls := "FastPlane$Show", name := "<init>", desc := "(III)V" } : Jvm.MethodName) prog_18_method_1_code (4 : Nat) (Option.none : Option Jvm.ClassFile.FieldType)) ∈ lw_all := lw_g (lw_at lw_m6 224 rfl) rfl
theorem q1528 : (Jvm.Cond.methodLink "FastPlane$Show" (1 : Nat) ({ cls := "FastPlane$Fact", name := "<init>", desc := "(II)V" } : Jvm.MethodName)) ∈ lw_all := lw_g (lw_at lw_m6 225 rfl) rfl
theorem q1529 : (Jvm.Cond.fieldLink "FastPlane$Show" (7 : Nat) "FastPlane$Show" "bits" "I") ∈ lw_all := lw_g (lw_at lw_m6 226 rfl) rfl
theorem q1530 : (Jvm.Cond.fieldLink "FastPlane" (363 : Nat) "FastPlane$Show" "bits" "I") ∈ lw_all := lw_g (lw_at lw_m6 227 rfl) rfl
theorem q1537 : (Jvm.Cond.methodLink "FastPlaneLaw" (70 : Nat) ({ cls := "FastPlane", name := "untell", desc := "(I)Z" } : Jvm.MethodName)) ∈ lw_all := lw_g (lw_at lw_m6 234 rfl) rfl
theorem q1538 : (Jvm.Cond.instanceMethod ({ cls := "FastPlane", name := "untell", desc := "(I)Z" } : Jvm.MethodName)) ∈ lw_all := lw_g (lw_at lw_m6 235 rfl) rfl
theorem q1539 : (Jvm.Cond.selects "FastPlane" ({ cls := "FastPlane", name := "untell", desc := "(I)Z" } : Jvm.MethodName) ({ cls := "FastPlane", name := "untell", desc := "(I)Z" } : Jvm.MethodName)) ∈ lw_all := lw_g (lw_at lw_m6 236 rfl) rfl
theorem q1540 : (Jvm.Cond.code ({ cls := "FastPlane", name := "untell", desc := "(I)Z" } : Jvm.MethodName) prog_1_method_28_code (2 : Nat) (Option.some Jvm.ClassFile.FieldType.boolean)) ∈ lw_all := lw_g (lw_at lw_m6 237 rfl) rfl
theorem q1541 : (Jvm.Cond.classLink "FastPlane" (279 : Nat) "FastPlane$Fact") ∈ lw_all := lw_g (lw_at lw_m6 238 rfl) rfl
theorem q1542 : (Jvm.Cond.methodLink "FastPlane" (281 : Nat) ({ cls := "FastPlane$Fact", name := "untell", desc := "(I)Z" } : Jvm.MethodName)) ∈ lw_all := lw_g (lw_at lw_m6 239 rfl) rfl
theorem q1543 : (Jvm.Cond.instanceMethod ({ cls := "FastPlane$Fact", name := "untell", desc := "(I)Z" } : Jvm.MethodName)) ∈ lw_all := lw_g (lw_at lw_m7 0 rfl) rfl
theorem q1545 : (Jvm.Cond.selects "FastPlane$Change" ({ cls := "FastPlane$Fact", name := "untell", desc := "(I)Z" } : Jvm.MethodName) ({ cls := "FastPlane$Fact", name := "untell", desc := "(I)Z" } : Jvm.MethodName)) ∈ lw_all := lw_g (lw_at lw_m7 2 rfl) rfl
theorem q1546 : (Jvm.Cond.selects "FastPlane$Estimate" ({ cls := "FastPlane$Fact", name := "untell", desc := "(I)Z" } : Jvm.MethodName) ({ cls := "FastPlane$Fact", name := "untell", desc := "(I)Z" } : Jvm.MethodName)) ∈ lw_all := lw_g (lw_at lw_m7 3 rfl) rfl
theorem q1547 : (Jvm.Cond.selects "FastPlane$Show" ({ cls := "FastPlane$Fact", name := "untell", desc := "(I)Z" } : Jvm.MethodName) ({ cls := "FastPlane$Fact", name := "untell", desc := "(I)Z" } : Jvm.MethodName)) ∈ lw_all := lw_g (lw_at lw_m7 4 rfl) rfl
theorem q1548 : (Jvm.Cond.code ({ cls := "FastPlane$Fact", name := "untell", desc := "(I)Z" } : Jvm.MethodName) prog_6_method_2_code (2 : Nat) (Option.some Jvm.ClassFile.FieldType.boolean)) ∈ lw_all := lw_g (lw_at lw_m7 5 rfl) rfl
theorem q1549 : (Jvm.Cond.methodLink "FastPlaneLaw" (75 : Nat) ({ cls := "FastPlane", name := "later", desc := "(I)I" } : Jvm.MethodName)) ∈ lw_all := lw_g (lw_at lw_m7 6 rfl) rfl
theorem q1550 : (Jvm.Cond.instanceMethod ({ cls := "FastPlane", name := "later", desc := "(I)I" } : Jvm.MethodName)) ∈ lw_all := lw_g (lw_at lw_m7 7 rfl) rfl
theorem q1551 : (Jvm.Cond.selects "FastPlane" ({ cls := "FastPlane", name := "later", desc := "(I)I" } : Jvm.MethodName) ({ cls := "FastPlane", name := "later", desc := "(I)I" } : Jvm.MethodName)) ∈ lw_all := lw_g (lw_at lw_m7 8 rfl) rfl
theorem q1552 : (Jvm.Cond.code ({ cls := "FastPlane", name := "later", desc := "(I)I" } : Jvm.MethodName) prog_1_method_29_code (2 : Nat) (Option.some Jvm.ClassFile.FieldType.int)) ∈ lw_all := lw_g (lw_at lw_m7 9 rfl) rfl
theorem q1553 : (Jvm.Cond.constant "FastPlane" (284 : Nat) (100000 : Int32)) ∈ lw_all := lw_g (lw_at lw_m7 10 rfl) rfl
theorem q1554 : (Jvm.Cond.methodLink "FastPlaneLaw" (79 : Nat) ({ cls := "FastPlane", name := "moves", desc := "(II)I" } : Jvm.MethodName)) ∈ lw_all := lw_g (lw_at lw_m7 11 rfl) rfl
theorem q1555 : (Jvm.Cond.instanceMethod ({ cls := "FastPlane", name := "moves", desc := "(II)I" } : Jvm.MethodName)) ∈ lw_all := lw_g (lw_at lw_m7 12 rfl) rfl
theorem q1556 : (Jvm.Cond.selects "FastPlane" ({ cls := "FastPlane", name := "moves", desc := "(II)I" } : Jvm.MethodName) ({ cls := "FastPlane", name := "moves", desc := "(II)I" } : Jvm.MethodName)) ∈ lw_all := lw_g (lw_at lw_m7 13 rfl) rfl
theorem q1557 : (Jvm.Cond.code ({ cls := "FastPlane", name := "moves", desc := "(II)I" } : Jvm.MethodName) prog_1_method_31_code (3 : Nat) (Option.some Jvm.ClassFile.FieldType.int)) ∈ lw_all := lw_g (lw_at lw_m7 14 rfl) rfl
theorem q1558 : (Jvm.Cond.methodLink "FastPlane" (304 : Nat) ({ cls := "FastPlane", name := "know", desc := "(I)V" } : Jvm.MethodName)) ∈ lw_all := lw_g (lw_at lw_m7 15 rfl) rfl
theorem q1559 : (Jvm.Cond.privateMethod ({ cls := "FastPlane", name := "know", desc := "(I)V" } : Jvm.MethodName)) ∈ lw_tbl := lw_at lw_m7 16 rfl
theorem u1559 : (Jvm.Cond.privateMethod ({ cls := "FastPlane", name := "know", desc := "(I)V" } : Jvm.MethodName)) ∈ lw_nw := List.mem_filter.mpr ⟨q1559, rfl⟩
theorem q1560 : (Jvm.Cond.instanceMethod ({ cls := "FastPlane", name := "know", desc := "(I)V" } : Jvm.MethodName)) ∈ lw_all := lw_g (lw_at lw_m7 17 rfl) rfl
theorem q1561 : (Jvm.Cond.code ({ cls := "FastPlane", name := "know", desc := "(I)V" } : Jvm.MethodName) prog_1_method_30_code (5 : Nat) (Option.none : Option Jvm.ClassFile.FieldType)) ∈ lw_all := lw_g (lw_at lw_m7 18 rfl) rfl
theorem q1562 : (Jvm.Cond.constant "FastPlane" (285 : Nat) (1000000 : Int32)) ∈ lw_all := lw_g (lw_at lw_m7 19 rfl) rfl
theorem q1563 : (Jvm.Cond.methodLink "FastPlane" (286 : Nat) ({ cls := "FastPlane$Change", name := "counts", desc := "(I)Z" } : Jvm.MethodName)) ∈ lw_all := lw_g (lw_at lw_m7 20 rfl) rfl
theorem q1564 : (Jvm.Cond.sameMethod "FastPlane$Change" "FastPlane$Fact" "counts" "(I)Z") ∈ lw_all := lw_g (lw_at lw_m7 21 rfl) rfl
theorem q1565 : (Jvm.Cond.declares ({ cls := "FastPlane$Fact", name := "counts", desc := "(I)Z" } : Jvm.MethodName)) ∈ lw_tbl := lw_at lw_m7 22 rfl
theorem u1565 : (Jvm.Cond.declares ({ cls := "FastPlane$Fact", name := "counts", desc := "(I)Z" } : Jvm.MethodName)) ∈ lw_nw := List.mem_filter.mpr ⟨q1565, rfl⟩
theorem q1566 : (Jvm.Cond.selects "FastPlane$Change" ({ cls := "FastPlane$Change", name := "counts", desc := "(I)Z" } : Jvm.MethodName) ({ cls := "FastPlane$Fact", name := "counts", desc := "(I)Z" } : Jvm.MethodName)) ∈ lw_all := lw_g (lw_at lw_m7 23 rfl) rfl
theorem q1567 : (Jvm.Cond.instanceMethod ({ cls := "FastPlane$Fact", name := "counts", desc := "(I)Z" } : Jvm.MethodName)) ∈ lw_all := lw_g (lw_at lw_m7 24 rfl) rfl
theorem q1568 : (Jvm.Cond.code ({ cls := "FastPlane$Fact", name := "counts", desc := "(I)Z" } : Jvm.MethodName) prog_6_method_3_code (2 : Nat) (Option.some Jvm.ClassFile.FieldType.boolean)) ∈ lw_all := lw_g (lw_at lw_m7 25 rfl) rfl
theorem q1569 : (Jvm.Cond.methodLink "FastPlane" (294 : Nat) ({ cls := "java/lang/Math", name := "min", desc := "(II)I" } : Jvm.MethodName)) ∈ lw_all := lw_g (lw_at lw_m7 26 rfl) rfl
theorem q1570 : (Jvm.Cond.methodLink "FastPlaneLaw" (83 : Nat) ({ cls := "FastPlane", name := "cost", desc := "(II)I" } : Jvm.MethodName)) ∈ lw_all := lw_g (lw_at lw_m7 27 rfl) rfl
theorem q1571 : (Jvm.Cond.instanceMethod ({ cls := "FastPlane", name := "cost", desc := "(II)I" } : Jvm.MethodName)) ∈ lw_all := lw_g (lw_at lw_m7 28 rfl) rfl
theorem q1572 : (Jvm.Cond.selects "FastPlane" ({ cls := "FastPlane", name := "cost", desc := "(II)I" } : Jvm.MethodName) ({ cls := "FastPlane", name := "cost", desc := "(II)I" } : Jvm.MethodName)) ∈ lw_all := lw_g (lw_at lw_m7 29 rfl) rfl
theorem q1573 : (Jvm.Cond.code ({ cls := "FastPlane", name := "cost", desc := "(II)I" } : Jvm.MethodName) prog_1_method_33_code (3 : Nat) (Option.some Jvm.ClassFile.FieldType.int)) ∈ lw_all := lw_g (lw_at lw_m7 30 rfl) rfl
theorem q1574 : (Jvm.Cond.methodLink "FastPlane" (310 : Nat) ({ cls := "FastPlane", name := "costs", desc := "(II)I" } : Jvm.MethodName)) ∈ lw_all := lw_g (lw_at lw_m7 31 rfl) rfl
theorem q1575 : (Jvm.Cond.privateMethod ({ cls := "FastPlane", name := "costs", desc := "(II)I" } : Jvm.MethodName)) ∈ lw_tbl := lw_at lw_m7 32 rfl
theorem u1575 : (Jvm.Cond.privateMethod ({ cls := "FastPlane", name := "costs", desc := "(II)I" } : Jvm.MethodName)) ∈ lw_nw := List.mem_filter.mpr ⟨q1575, rfl⟩
theorem q1576 : (Jvm.Cond.instanceMethod ({ cls := "FastPlane", name := "costs", desc := "(II)I" } : Jvm.MethodName)) ∈ lw_all := lw_g (lw_at lw_m7 33 rfl) rfl
theorem q1577 : (Jvm.Cond.code ({ cls := "FastPlane", name := "costs", desc := "(II)I" } : Jvm.MethodName) prog_1_method_32_code (5 : Nat) (Option.some Jvm.ClassFile.FieldType.int)) ∈ lw_all := lw_g (lw_at lw_m7 34 rfl) rfl
theorem q1578 : (Jvm.Cond.methodLink "FastPlaneLaw" (87 : Nat) ({ cls := "FastPlane", name := "pays", desc := "(III)I" } : Jvm.MethodName)) ∈ lw_all := lw_g (lw_at lw_m7 35 rfl) rfl
theorem q1579 : (Jvm.Cond.instanceMethod ({ cls := "FastPlane", name := "pays", desc := "(III)I" } : Jvm.MethodName)) ∈ lw_all := lw_g (lw_at lw_m7 36 rfl) rfl
theorem q1580 : (Jvm.Cond.selects "FastPlane" ({ cls := "FastPlane", name := "pays", desc := "(III)I" } : Jvm.MethodName) ({ cls := "FastPlane", name := "pays", desc := "(III)I" } : Jvm.MethodName)) ∈ lw_all := lw_g (lw_at lw_m7 37 rfl) rfl
theorem q1581 : (Jvm.Cond.code ({ cls := "FastPlane", name := "pays", desc := "(III)I" } : Jvm.MethodName) prog_1_method_34_code (8 : Nat) (Option.some Jvm.ClassFile.FieldType.int)) ∈ lw_all := lw_g (lw_at lw_m7 38 rfl) rfl
theorem q1582 : (Jvm.Cond.methodLink "FastPlane" (315 : Nat) ({ cls := "FastPlane$Treaty", name := "share", desc := "([I)I" } : Jvm.MethodName)) ∈ lw_all := lw_g (lw_at lw_m7 39 rfl) rfl
theorem q1583 : (Jvm.Cond.instanceMethod ({ cls := "FastPlane$Treaty", name := "share", desc := "([I)I" } : Jvm.MethodName)) ∈ lw_all := lw_g (lw_at lw_m7 40 rfl) rfl
theorem q1584 : (Jvm.Cond.selects "FastPlane$Treaty" ({ cls := "FastPlane$Treaty", name := "share", desc := "([I)I" } : Jvm.MethodName) ({ cls := "FastPlane$Treaty", name := "share", desc := "([I)I" } : Jvm.MethodName)) ∈ lw_all := lw_g (lw_at lw_m7 41 rfl) rfl
theorem q1585 : (Jvm.Cond.code ({ cls := "FastPlane$Treaty", name := "share", desc := "([I)I" } : Jvm.MethodName) prog_19_method_3_code (2 : Nat) (Option.some Jvm.ClassFile.FieldType.int)) ∈ lw_all := lw_g (lw_at lw_m7 42 rfl) rfl
theorem q1586 : (Jvm.Cond.methodLink "FastPlane$Treaty" (21 : Nat) ({ cls := "java/lang/Math", name := "min", desc := "(II)I" } : Jvm.MethodName)) ∈ lw_all := lw_g (lw_at lw_m7 43 rfl) rfl
theorem q1587 : (Jvm.Cond.methodLink "FastPlane$Treaty" (27 : Nat) ({ cls := "java/lang/Math", name := "max", desc := "(II)I" } : Jvm.MethodName)) ∈ lw_all := lw_g (lw_at lw_m7 44 rfl) rfl
theorem q1588 : (Jvm.Cond.methodLink "FastPlaneLaw" (92 : Nat) ({ cls := "FastPlane", name := "over", desc := "(II)I" } : Jvm.MethodName)) ∈ lw_all := lw_g (lw_at lw_m7 45 rfl) rfl
theorem q1589 : (Jvm.Cond.instanceMethod ({ cls := "FastPlane", name := "over", desc := "(II)I" } : Jvm.MethodName)) ∈ lw_all := lw_g (lw_at lw_m7 46 rfl) rfl
theorem q1590 : (Jvm.Cond.selects "FastPlane" ({ cls := "FastPlane", name := "over", desc := "(II)I" } : Jvm.MethodName) ({ cls := "FastPlane", name := "over", desc := "(II)I" } : Jvm.MethodName)) ∈ lw_all := lw_g (lw_at lw_m7 47 rfl) rfl
theorem q1591 : (Jvm.Cond.code ({ cls := "FastPlane", name := "over", desc := "(II)I" } : Jvm.MethodName) prog_1_method_36_code (3 : Nat) (Option.some Jvm.ClassFile.FieldType.int)) ∈ lw_all := lw_g (lw_at lw_m7 48 rfl) rfl
theorem q1592 : (Jvm.Cond.methodLink "FastPlane" (323 : Nat) ({ cls := "FastPlane", name := "overOf", desc := "(II)I" } : Jvm.MethodName)) ∈ lw_all := lw_g (lw_at lw_m7 49 rfl) rfl
theorem q1593 : (Jvm.Cond.privateMethod ({ cls := "FastPlane", name := "overOf", desc := "(II)I" } : Jvm.MethodName)) ∈ lw_tbl := lw_at lw_m7 50 rfl
theorem u1593 : (Jvm.Cond.privateMethod ({ cls := "FastPlane", name := "overOf", desc := "(II)I" } : Jvm.MethodName)) ∈ lw_nw := List.mem_filter.mpr ⟨q1593, rfl⟩
theorem q1594 : (Jvm.Cond.instanceMethod ({ cls := "FastPlane", name := "overOf", desc := "(II)I" } : Jvm.MethodName)) ∈ lw_all := lw_g (lw_at lw_m7 51 rfl) rfl
theorem q1595 : (Jvm.Cond.code ({ cls := "FastPlane", name := "overOf", desc := "(II)I" } : Jvm.MethodName) prog_1_method_35_code (6 : Nat) (Option.some Jvm.ClassFile.FieldType.int)) ∈ lw_all := lw_g (lw_at lw_m7 52 rfl) rfl
theorem q1596 : (Jvm.Cond.methodLink "FastPlane" (319 : Nat) ({ cls := "FastPlane$Estimate", name := "counts", desc := "(I)Z" } : Jvm.MethodName)) ∈ lw_all := lw_g (lw_at lw_m7 53 rfl) rfl
theorem q1597 : (Jvm.Cond.sameMethod "FastPlane$Estimate" "FastPlane$Fact" "counts" "(I)Z") ∈ lw_all := lw_g (lw_at lw_m7 54 rfl) rfl
theorem q1598 : (Jvm.Cond.selects "FastPlane$Estimate" ({ cls := "FastPlane$Estimate", name := "counts", desc := "(I)Z" } : Jvm.MethodName) ({ cls := "FastPlane$Fact", name := "counts", desc := "(I)Z" } : Jvm.MethodName)) ∈ lw_all := lw_g (lw_at lw_m7 55 rfl) rfl
theorem q1599 : (Jvm.Cond.methodLink "FastPlaneLaw" (96 : Nat) ({ cls := "FastPlane", name := "leave", desc := "(III)I" } : Jvm.MethodName)) ∈ lw_all := lw_g (lw_at lw_m7 56 rfl) rfl
theorem q1600 : (Jvm.Cond.instanceMethod ({ cls := "FastPlane", name := "leave", desc := "(III)I" } : Jvm.MethodName)) ∈ lw_all := lw_g (lw_at lw_m7 57 rfl) rfl
theorem q1601 : (Jvm.Cond.selects "FastPlane" ({ cls := "FastPlane", name := "leave", desc := "(III)I" } : Jvm.MethodName) ({ cls := "FastPlane", name := "leave", desc := "(III)I" } : Jvm.MethodName)) ∈ lw_all := lw_g (lw_at lw_m7 58 rfl) rfl
theorem q1602 : (Jvm.Cond.code ({ cls := "FastPlane", name := "leave", desc := "(III)I" } : Jvm.MethodName) prog_1_method_37_code (4 : Nat) (Option.some Jvm.ClassFile.FieldType.int)) ∈ lw_all := lw_g (lw_at lw_m7 59 rfl) rfl
theorem q1603 : (Jvm.Cond.methodLink "FastPlaneLaw" (100 : Nat) ({ cls := "FastPlane", name := "bounds", desc := "(II)I" } : Jvm.MethodName)) ∈ lw_all := lw_g (lw_at lw_m7 60 rfl) rfl
theorem q1604 : (Jvm.Cond.instanceMethod ({ cls := "FastPlane", name := "bounds", desc := "(II)I" } : Jvm.MethodName)) ∈ lw_all := lw_g (lw_at lw_m7 61 rfl) rfl
theorem q1605 : (Jvm.Cond.selects "FastPlane" ({ cls := "FastPlane", name := "bounds", desc := "(II)I" } : Jvm.MethodName) ({ cls := "FastPlane", name := "bounds", desc := "(II)I" } : Jvm.MethodName)) ∈ lw_all := lw_g (lw_at lw_m7 62 rfl) rfl
theorem q1606 : (Jvm.Cond.code ({ cls := "FastPlane", name := "bounds", desc := "(II)I" } : Jvm.MethodName) prog_1_method_38_code (3 : Nat) (Option.some Jvm.ClassFile.FieldType.int)) ∈ lw_all := lw_g (lw_at lw_m7 63 rfl) rfl
theorem q1607 : (Jvm.Cond.methodLink "FastPlaneLaw" (104 : Nat) ({ cls := "FastPlane", name := "land", desc := "()I" } : Jvm.MethodName)) ∈ lw_all := lw_g (lw_at lw_m7 64 rfl) rfl
theorem q1608 : (Jvm.Cond.instanceMethod ({ cls := "FastPlane", name := "land", desc := "()I" } : Jvm.MethodName)) ∈ lw_all := lw_g (lw_at lw_m7 65 rfl) rfl
theorem q1609 : (Jvm.Cond.selects "FastPlane" ({ cls := "FastPlane", name := "land", desc := "()I" } : Jvm.MethodName) ({ cls := "FastPlane", name := "land", desc := "()I" } : Jvm.MethodName)) ∈ lw_all := lw_g (lw_at lw_m7 66 rfl) rfl
theorem q1610 : (Jvm.Cond.code ({ cls := "FastPlane", name := "land", desc := "()I" } : Jvm.MethodName) prog_1_method_39_code (2 : Nat) (Option.some Jvm.ClassFile.FieldType.int)) ∈ lw_all := lw_g (lw_at lw_m7 67 rfl) rfl
theorem q1611 : (Jvm.Cond.methodLink "FastPlaneLaw" (108 : Nat) ({ cls := "FastPlane", name := "pump", desc := "(I)Z" } : Jvm.MethodName)) ∈ lw_all := lw_g (lw_at lw_m7 68 rfl) rfl
theorem q1612 : (Jvm.Cond.instanceMethod ({ cls := "FastPlane", name := "pump", desc := "(I)Z" } : Jvm.MethodName)) ∈ lw_all := lw_g (lw_at lw_m7 69 rfl) rfl
theorem q1613 : (Jvm.Cond.selects "FastPlane" ({ cls := "FastPlane", name := "pump", desc := "(I)Z" } : Jvm.MethodName) ({ cls := "FastPlane", name := "pump", desc := "(I)Z" } : Jvm.MethodName)) ∈ lw_all := lw_g (lw_at lw_m7 70 rfl) rfl
theorem q1614 : (Jvm.Cond.code ({ cls := "FastPlane", name := "pump", desc := "(I)Z" } : Jvm.MethodName) prog_1_method_40_code (2 : Nat) (Option.some Jvm.ClassFile.FieldType.boolean)) ∈ lw_all := lw_g (lw_at lw_m7 71 rfl) rfl
theorem q1615 : (Jvm.Cond.methodLink "FastPlaneLaw" (112 : Nat) ({ cls := "FastPlane", name := "plan", desc := "(III)I" } : Jvm.MethodName)) ∈ lw_all := lw_g (lw_at lw_m7 72 rfl) rfl
theorem q1616 : (Jvm.Cond.instanceMethod ({ cls := "FastPlane", name := "plan", desc := "(III)I" } : Jvm.MethodName)) ∈ lw_all := lw_g (lw_at lw_m7 73 rfl) rfl
theorem q1617 : (Jvm.Cond.selects "FastPlane" ({ cls := "FastPlane", name := "plan", desc := "(III)I" } : Jvm.MethodName) ({ cls := "FastPlane", name := "plan", desc := "(III)I" } : Jvm.MethodName)) ∈ lw_all := lw_g (lw_at lw_m7 74 rfl) rfl
theorem q1618 : (Jvm.Cond.code ({ cls := "FastPlane", name := "plan", desc := "(III)I" } : Jvm.MethodName) prog_1_method_46_code (5 : Nat) (Option.some Jvm.ClassFile.FieldType.int)) ∈ lw_all := lw_g (lw_at lw_m7 75 rfl) rfl
theorem q1619 : (Jvm.Cond.methodLink "FastPlane" (339 : Nat) ({ cls := "FastPlane", name := "canPlan", desc := "(III)Z" } : Jvm.MethodName)) ∈ lw_all := lw_g (lw_at lw_m7 76 rfl) rfl
theorem q1620 : (Jvm.Cond.privateMethod ({ cls := "FastPlane", name := "canPlan", desc := "(III)Z" } : Jvm.MethodName)) ∈ lw_tbl := lw_at lw_m7 77 rfl
theorem u1620 : (Jvm.Cond.privateMethod ({ cls := "FastPlane", name := "canPlan", desc := "(III)Z" } : Jvm.MethodName)) ∈ lw_nw := List.mem_filter.mpr ⟨q1620, rfl⟩
theorem q1621 : (Jvm.Cond.instanceMethod ({ cls := "FastPlane", name := "canPlan", desc := "(III)Z" } : Jvm.MethodName)) ∈ lw_all := lw_g (lw_at lw_m7 78 rfl) rfl
theorem q1622 : (Jvm.Cond.code ({ cls := "FastPlane", name := "canPlan", desc := "(III)Z" } : Jvm.MethodName) prog_1_method_45_code (4 : Nat) (Option.some Jvm.ClassFile.FieldType.boolean)) ∈ lw_all := lw_g (lw_at lw_m7 79 rfl) rfl
theorem q1623 : (Jvm.Cond.methodLink "FastPlane" (342 : Nat) ({ cls := "FastPlane", name := "fill", desc := "(III)I" } : Jvm.MethodName)) ∈ lw_all := lw_g (lw_at lw_m7 80 rfl) rfl
theorem q1624 : (Jvm.Cond.privateMethod ({ cls := "FastPlane", name := "fill", desc := "(III)I" } : Jvm.MethodName)) ∈ lw_tbl := lw_at lw_m7 81 rfl
theorem u1624 : (Jvm.Cond.privateMethod ({ cls := "FastPlane", name := "fill", desc := "(III)I" } : Jvm.MethodName)) ∈ lw_nw := List.mem_filter.mpr ⟨q1624, rfl⟩
theorem q1625 : (Jvm.Cond.instanceMethod ({ cls := "FastPlane", name := "fill", desc := "(III)I" } : Jvm.MethodName)) ∈ lw_all := lw_g (lw_at lw_m7 82 rfl) rfl
theorem q1626 : (Jvm.Cond.code ({ cls := "FastPlane", name := "fill", desc := "(III)I" } : Jvm.MethodName) prog_1_method_44_code (10 : Nat) (Option.some Jvm.ClassFile.FieldType.int)) ∈ lw_all := lw_g (lw_at lw_m7 83 rfl) rfl
theorem q1627 : (Jvm.Cond.methodLink "FastPlane" (336 : Nat) ({ cls := "FastPlane", name := "worth", desc := "(III)I" } : Jvm.MethodName)) ∈ lw_all := lw_g (lw_at lw_m7 84 rfl) rfl
theorem q1628 : (Jvm.Cond.privateMethod ({ cls := "FastPlane", name := "worth", desc := "(III)I" } : Jvm.MethodName)) ∈ lw_tbl := lw_at lw_m7 85 rfl
theorem u1628 : (Jvm.Cond.privateMethod ({ cls := "FastPlane", name := "worth", desc := "(III)I" } : Jvm.MethodName)) ∈ lw_nw := List.mem_filter.mpr ⟨q1628, rfl⟩
theorem q1629 : (Jvm.Cond.instanceMethod ({ cls := "FastPlane", name := "worth", desc := "(III)I" } : Jvm.MethodName)) ∈ lw_all := lw_g (lw_at lw_m7 86 rfl) rfl
theorem q1630 : (Jvm.Cond.code ({ cls := "FastPlane", name := "worth", desc := "(III)I" } : Jvm.MethodName) prog_1_method_43_code (5 : Nat) (Option.some Jvm.ClassFile.FieldType.int)) ∈ lw_all := lw_g (lw_at lw_m7 87 rfl) rfl
theorem q1631 : (Jvm.Cond.methodLink "FastPlane" (334 : Nat) ({ cls := "FastPlane", name := "by", desc := "(III)I" } : Jvm.MethodName)) ∈ lw_all := lw_g (lw_at lw_m7 88 rfl) rfl
theorem q1632 : (Jvm.Cond.privateMethod ({ cls := "FastPlane", name := "by", desc := "(III)I" } : Jvm.MethodName)) ∈ lw_tbl := lw_at lw_m7 89 rfl
theorem u1632 : (Jvm.Cond.privateMethod ({ cls := "FastPlane", name := "by", desc := "(III)I" } : Jvm.MethodName)) ∈ lw_nw := List.mem_filter.mpr ⟨q1632, rfl⟩
theorem q1633 : (Jvm.Cond.instanceMethod ({ cls := "FastPlane", name := "by", desc := "(III)I" } : Jvm.MethodName)) ∈ lw_all := lw_g (lw_at lw_m7 90 rfl) rfl
theorem q1634 : (Jvm.Cond.code ({ cls := "FastPlane", name := "by", desc := "(III)I" } : Jvm.MethodName) prog_1_method_42_code (12 : Nat) (Option.some Jvm.ClassFile.FieldType.int)) ∈ lw_all := lw_g (lw_at lw_m7 91 rfl) rfl
theorem q1635 : (Jvm.Cond.methodLink "FastPlane" (330 : Nat) ({ cls := "FastPlane", name := "state", desc := "(III)I" } : Jvm.MethodName)) ∈ lw_all := lw_g (lw_at lw_m7 92 rfl) rfl
theorem q1636 : (Jvm.Cond.static ({ cls := "FastPlane", name := "state", desc := "(III)I" } : Jvm.MethodName)) ∈ lw_all := lw_g (lw_at lw_m7 93 rfl) rfl
theorem q1637 : (Jvm.Cond.code ({ cls := "FastPlane", name := "state", desc := "(III)I" } : Jvm.MethodName) prog_1_method_41_code (3 : Nat) (Option.some Jvm.ClassFile.FieldType.int)) ∈ lw_all := lw_g (lw_at lw_m7 94 rfl) rfl
theorem q1638 : (Jvm.Cond.methodLink "FastPlaneLaw" (116 : Nat) ({ cls := "FastPlane", name := "move", desc := "(IIII)I" } : Jvm.MethodName)) ∈ lw_all := lw_g (lw_at lw_m7 95 rfl) rfl
theorem q1639 : (Jvm.Cond.instanceMethod ({ cls := "FastPlane", name := "move", desc := "(IIII)I" } : Jvm.MethodName)) ∈ lw_all := lw_g (lw_at lw_m7 96 rfl) rfl
theorem q1640 : (Jvm.Cond.selects "FastPlane" ({ cls := "FastPlane", name := "move", desc := "(IIII)I" } : Jvm.MethodName) ({ cls := "FastPlane", name := "move", desc := "(IIII)I" } : Jvm.MethodName)) ∈ lw_all := lw_g (lw_at lw_m7 97 rfl) rfl
theorem q1641 : (Jvm.Cond.code ({ cls := "FastPlane", name := "move", desc := "(IIII)I" } : Jvm.MethodName) prog_1_method_47_code (8 : Nat) (Option.some Jvm.ClassFile.FieldType.int)) ∈ lw_all := lw_g (lw_at lw_m7 98 rfl) rfl
theorem q1642 : (Jvm.Cond.methodLink "FastPlane" (345 : Nat) ({ cls := "FastPlane", name := "plan", desc := "(III)I" } : Jvm.MethodName)) ∈ lw_all := lw_g (lw_at lw_m7 99 rfl) rfl
theorem q1643 : (Jvm.Cond.methodLink "FastPlaneLaw" (121 : Nat) ({ cls := "FastPlane", name := "soonest", desc := "(IIIIII)I" } : Jvm.MethodName)) ∈ lw_all := lw_g (lw_at lw_m7 100 rfl) rfl
theorem q1644 : (Jvm.Cond.instanceMethod ({ cls := "FastPlane", name := "soonest", desc := "(IIIIII)I" } : Jvm.MethodName)) ∈ lw_all := lw_g (lw_at lw_m7 101 rfl) rfl
theorem q1645 : (Jvm.Cond.selects "FastPlane" ({ cls := "FastPlane", name := "soonest", desc := "(IIIIII)I" } : Jvm.MethodName) ({ cls := "FastPlane", name := "soonest", desc := "(IIIIII)I" } : Jvm.MethodName)) ∈ lw_all := lw_g (lw_at lw_m7 102 rfl) rfl
theorem q1646 : (Jvm.Cond.code ({ cls := "FastPlane", name := "soonest", desc := "(IIIIII)I" } : Jvm.MethodName) prog_1_method_50_code (13 : Nat) (Option.some Jvm.ClassFile.FieldType.int)) ∈ lw_all := lw_g (lw_at lw_m7 103 rfl) rfl
theorem q1647 : (Jvm.Cond.methodLink "FastPlane" (348 : Nat) ({ cls := "FastPlane", name := "isCell", desc := "(I)Z" } : Jvm.MethodName)) ∈ lw_all := lw_g (lw_at lw_m7 104 rfl) rfl
theorem q1648 : (Jvm.Cond.static ({ cls := "FastPlane", name := "isCell", desc := "(I)Z" } : Jvm.MethodName)) ∈ lw_all := lw_g (lw_at lw_m7 105 rfl) rfl
theorem q1649 : (Jvm.Cond.code ({ cls := "FastPlane", name := "isCell", desc := "(I)Z" } : Jvm.MethodName) prog_1_method_48_code (1 : Nat) (Option.some Jvm.ClassFile.FieldType.boolean)) ∈ lw_all := lw_g (lw_at lw_m7 106 rfl) rfl
theorem q1650 : (Jvm.Cond.methodLink "FastPlane" (354 : Nat) ({ cls := "FastPlane", name := "enter", desc := "(IIII)V" } : Jvm.MethodName)) ∈ lw_all := lw_g (lw_at lw_m7 107 rfl) rfl
theorem q1651 : (Jvm.Cond.privateMethod ({ cls := "FastPlane", name := "enter", desc := "(IIII)V" } : Jvm.MethodName)) ∈ lw_tbl := lw_at lw_m7 108 rfl
theorem u1651 : (Jvm.Cond.privateMethod ({ cls := "FastPlane", name := "enter", desc := "(IIII)V" } : Jvm.MethodName)) ∈ lw_nw := List.mem_filter.mpr ⟨q1651, rfl⟩
theorem q1652 : (Jvm.Cond.instanceMethod ({ cls := "FastPlane", name := "enter", desc := "(IIII)V" } : Jvm.MethodName)) ∈ lw_all := lw_g (lw_at lw_m7 109 rfl) rfl
theorem q1653 : (Jvm.Cond.code ({ cls := "FastPlane", name := "enter", desc := "(IIII)V" } : Jvm.MethodName) prog_1_method_49_code (5 : Nat) (Option.none : Option Jvm.ClassFile.FieldType)) ∈ lw_all := lw_g (lw_at lw_m7 110 rfl) rfl
theorem q1654 : (Jvm.Cond.methodLink "FastPlaneLaw" (126 : Nat) ({ cls := "FastPlane", name := "airline", desc := "(II)I" } : Jvm.MethodName)) ∈ lw_all := lw_g (lw_at lw_m7 111 rfl) rfl
theorem q1655 : (Jvm.Cond.instanceMethod ({ cls := "FastPlane", name := "airline", desc := "(II)I" } : Jvm.MethodName)) ∈ lw_all := lw_g (lw_at lw_m7 112 rfl) rfl
theorem q1656 : (Jvm.Cond.selects "FastPlane" ({ cls := "FastPlane", name := "airline", desc := "(II)I" } : Jvm.MethodName) ({ cls := "FastPlane", name := "airline", desc := "(II)I" } : Jvm.MethodName)) ∈ lw_all := lw_g (lw_at lw_m7 113 rfl) rfl
theorem q1657 : (Jvm.Cond.code ({ cls := "FastPlane", name := "airline", desc := "(II)I" } : Jvm.MethodName) prog_1_method_51_code (3 : Nat) (Option.some Jvm.ClassFile.FieldType.int)) ∈ lw_all := lw_g (lw_at lw_m7 114 rfl) rfl
theorem q1658 : (Jvm.Cond.methodLink "FastPlaneLaw" (130 : Nat) ({ cls := "FastPlane", name := "hold", desc := "(III)I" } : Jvm.MethodName)) ∈ lw_all := lw_g (lw_at lw_m7 115 rfl) rfl
theorem q1659 : (Jvm.Cond.instanceMethod ({ cls := "FastPlane", name := "hold", desc := "(III)I" } : Jvm.MethodName)) ∈ lw_all := lw_g (lw_at lw_m7 116 rfl) rfl
theorem q1660 : (Jvm.Cond.selects "FastPlane" ({ cls := "FastPlane", name := "hold", desc := "(III)I" } : Jvm.MethodName) ({ cls := "FastPlane", name := "hold", desc := "(III)I" } : Jvm.MethodName)) ∈ lw_all := lw_g (lw_at lw_m7 117 rfl) rfl
theorem q1661 : (Jvm.Cond.code ({ cls := "FastPlane", name := "hold", desc := "(III)I" } : Jvm.MethodName) prog_1_method_53_code (4 : Nat) (Option.some Jvm.ClassFile.FieldType.int)) ∈ lw_all := lw_g (lw_at lw_m7 118 rfl) rfl
theorem q1662 : (Jvm.Cond.methodLink "FastPlane" (371 : Nat) ({ cls := "FastPlane", name := "lapsing", desc := "(III)I" } : Jvm.MethodName)) ∈ lw_all := lw_g (lw_at lw_m7 119 rfl) rfl
theorem q1663 : (Jvm.Cond.privateMethod ({ cls := "FastPlane", name := "lapsing", desc := "(III)I" } : Jvm.MethodName)) ∈ lw_tbl := lw_at lw_m7 120 rfl
theorem u1663 : (Jvm.Cond.privateMethod ({ cls := "FastPlane", name := "lapsing", desc := "(III)I" } : Jvm.MethodName)) ∈ lw_nw := List.mem_filter.mpr ⟨q1663, rfl⟩
theorem q1664 : (Jvm.Cond.instanceMethod ({ cls := "FastPlane", name := "lapsing", desc := "(III)I" } : Jvm.MethodName)) ∈ lw_all := lw_g (lw_at lw_m7 121 rfl) rfl
theorem q1665 : (Jvm.Cond.code ({ cls := "FastPlane", name := "lapsing", desc := "(III)I" } : Jvm.MethodName) prog_1_method_52_code (9 : Nat) (Option.some Jvm.ClassFile.FieldType.int)) ∈ lw_all := lw_g (lw_at lw_m7 122 rfl) rfl
theorem q1666 : (Jvm.Cond.methodLink "FastPlane" (361 : Nat) ({ cls := "FastPlane$Fact", name := "counts", desc := "(I)Z" } : Jvm.MethodName)) ∈ lw_all := lw_g (lw_at lw_m7 123 rfl) rfl
theorem q1667 : (Jvm.Cond.methodLink "FastPlane" (366 : Nat) ({ cls := "java/lang/Integer", name := "bitCount", desc := "(I)I" } : Jvm.MethodName)) ∈ lw_all := lw_g (lw_at lw_m7 124 rfl) rfl
theorem q1668 : (Jvm.Cond.static ({ cls := "java/lang/Integer", name := "bitCount", desc := "(I)I" } : Jvm.MethodName)) ∈ lw_all := lw_g (lw_at lw_m7 125 rfl) rfl
theorem q1669 : (Jvm.Cond.code ({ cls := "java/lang/Integer", name := "bitCount", desc := "(I)I" } : Jvm.MethodName) prog_33_method_49_code (1 : Nat) (Option.some Jvm.ClassFile.FieldType.int)) ∈ lw_all := lw_g (lw_at lw_m7 126 rfl) rfl
theorem q1670 : (Jvm.Cond.constant "java/lang/Integer" (265 : Nat) (1431655765 : Int32)) ∈ lw_all := lw_g (lw_at lw_m7 127 rfl) rfl
theorem q1671 : (Jvm.Cond.constant "java/lang/Integer" (266 : Nat) (858993459 : Int32)) ∈ lw_all := lw_g (lw_at lw_m7 128 rfl) rfl
theorem q1672 : (Jvm.Cond.constant "java/lang/Integer" (267 : Nat) (252645135 : Int32)) ∈ lw_all := lw_g (lw_at lw_m7 129 rfl) rfl
theorem q1673 : (Jvm.Cond.methodLink "FastPlaneLaw" (134 : Nat) ({ cls := "FastPlane", name := "lapse", desc := "(IIII)I" } : Jvm.MethodName)) ∈ lw_all := lw_g (lw_at lw_m7 130 rfl) rfl
theorem q1674 : (Jvm.Cond.instanceMethod ({ cls := "FastPlane", name := "lapse", desc := "(IIII)I" } : Jvm.MethodName)) ∈ lw_all := lw_g (lw_at lw_m7 131 rfl) rfl
theorem q1675 : (Jvm.Cond.selects "FastPlane" ({ cls := "FastPlane", name := "lapse", desc := "(IIII)I" } : Jvm.MethodName) ({ cls := "FastPlane", name := "lapse", desc := "(IIII)I" } : Jvm.MethodName)) ∈ lw_all := lw_g (lw_at lw_m7 132 rfl) rfl
theorem q1676 : (Jvm.Cond.code ({ cls := "FastPlane", name := "lapse", desc := "(IIII)I" } : Jvm.MethodName) prog_1_method_54_code (5 : Nat) (Option.some Jvm.ClassFile.FieldType.int)) ∈ lw_all := lw_g (lw_at lw_m7 133 rfl) rfl
theorem q1677 : (Jvm.Cond.methodLink "FastPlaneLaw" (138 : Nat) ({ cls := "FastPlane", name := "shared", desc := "(I)I" } : Jvm.MethodName)) ∈ lw_all := lw_g (lw_at lw_m7 134 rfl) rfl
theorem q1678 : (Jvm.Cond.instanceMethod ({ cls := "FastPlane", name := "shared", desc := "(I)I" } : Jvm.MethodName)) ∈ lw_all := lw_g (lw_at lw_m7 135 rfl) rfl
theorem q1679 : (Jvm.Cond.selects "FastPlane" ({ cls := "FastPlane", name := "shared", desc := "(I)I" } : Jvm.MethodName) ({ cls := "FastPlane", name := "shared", desc := "(I)I" } : Jvm.MethodName)) ∈ lw_all := lw_g (lw_at lw_m7 136 rfl) rfl
theorem q1680 : (Jvm.Cond.code ({ cls := "FastPlane", name := "shared", desc := "(I)I" } : Jvm.MethodName) prog_1_method_56_code (3 : Nat) (Option.some Jvm.ClassFile.FieldType.int)) ∈ lw_all := lw_g (lw_at lw_m7 137 rfl) rfl
theorem q1681 : (Jvm.Cond.methodLink "FastPlane" (386 : Nat) ({ cls := "FastPlane", name := "lay", desc := "(IIIII)V" } : Jvm.MethodName)) ∈ lw_all := lw_g (lw_at lw_m7 138 rfl) rfl
theorem q1682 : (Jvm.Cond.privateMethod ({ cls := "FastPlane", name := "lay", desc := "(IIIII)V" } : Jvm.MethodName)) ∈ lw_tbl := lw_at lw_m7 139 rfl
theorem u1682 : (Jvm.Cond.privateMethod ({ cls := "FastPlane", name := "lay", desc := "(IIIII)V" } : Jvm.MethodName)) ∈ lw_nw := List.mem_filter.mpr ⟨q1682, rfl⟩
theorem q1683 : (Jvm.Cond.instanceMethod ({ cls := "FastPlane", name := "lay", desc := "(IIIII)V" } : Jvm.MethodName)) ∈ lw_all := lw_g (lw_at lw_m7 140 rfl) rfl
theorem q1684 : (Jvm.Cond.code ({ cls := "FastPlane", name := "lay", desc := "(IIIII)V" } : Jvm.MethodName) prog_1_method_55_code (8 : Nat) (Option.none : Option Jvm.ClassFile.FieldType)) ∈ lw_all := lw_g (lw_at lw_m7 141 rfl) rfl
theorem q1685 : (Jvm.Cond.methodLink "FastPlane" (380 : Nat) ({ cls := "java/lang/System", name := "arraycopy", desc := "(Ljava/lang/Object;ILjava/lang/Object;II)V" } : Jvm.MethodName)) ∈ lw_all := lw_g (lw_at lw_m7 142 rfl) rfl
theorem q1686 : (Jvm.Cond.methodLink "FastPlaneLaw" (142 : Nat) ({ cls := "FastPlane", name := "maker", desc := "(II)I" } : Jvm.MethodName)) ∈ lw_all := lw_g (lw_at lw_m7 143 rfl) rfl
theorem q1687 : (Jvm.Cond.instanceMethod ({ cls := "FastPlane", name := "maker", desc := "(II)I" } : Jvm.MethodName)) ∈ lw_all := lw_g (lw_at lw_m7 144 rfl) rfl
theorem q1688 : (Jvm.Cond.selects "FastPlane" ({ cls := "FastPlane", name := "maker", desc := "(II)I" } : Jvm.MethodName) ({ cls := "FastPlane", name := "maker", desc := "(II)I" } : Jvm.MethodName)) ∈ lw_all := lw_g (lw_at lw_m7 145 rfl) rfl
theorem q1689 : (Jvm.Cond.code ({ cls := "FastPlane", name := "maker", desc := "(II)I" } : Jvm.MethodName) prog_1_method_57_code (3 : Nat) (Option.some Jvm.ClassFile.FieldType.int)) ∈ lw_all := lw_g (lw_at lw_m7 146 rfl) rfl
theorem q1690 : (Jvm.Cond.methodLink "FastPlane" (390 : Nat) ({ cls := "FastPlane", name := "shared", desc := "(I)I" } : Jvm.MethodName)) ∈ lw_all := lw_g (lw_at lw_m7 147 rfl) rfl
theorem q1691 : (Jvm.Cond.methodLink "FastPlaneLaw" (146 : Nat) ({ cls := "FastPlane", name := "stage", desc := "(II)I" } : Jvm.MethodName)) ∈ lw_all := lw_g (lw_at lw_m7 148 rfl) rfl
theorem q1692 : (Jvm.Cond.instanceMethod ({ cls := "FastPlane", name := "stage", desc := "(II)I" } : Jvm.MethodName)) ∈ lw_all := lw_g (lw_at lw_m7 149 rfl) rfl
theorem q1693 : (Jvm.Cond.selects "FastPlane" ({ cls := "FastPlane", name := "stage", desc := "(II)I" } : Jvm.MethodName) ({ cls := "FastPlane", name := "stage", desc := "(II)I" } : Jvm.MethodName)) ∈ lw_all := lw_g (lw_at lw_m7 150 rfl) rfl
theorem q1694 : (Jvm.Cond.code ({ cls := "FastPlane", name := "stage", desc := "(II)I" } : Jvm.MethodName) prog_1_method_58_code (3 : Nat) (Option.some Jvm.ClassFile.FieldType.int)) ∈ lw_all := lw_g (lw_at lw_m7 151 rfl) rfl
theorem q1695 : (Jvm.Cond.methodLink "FastPlaneLaw" (150 : Nat) ({ cls := "FastPlane", name := "grant", desc := "(II)Z" } : Jvm.MethodName)) ∈ lw_all := lw_g (lw_at lw_m7 152 rfl) rfl
theorem q1696 : (Jvm.Cond.instanceMethod ({ cls := "FastPlane", name := "grant", desc := "(II)Z" } : Jvm.MethodName)) ∈ lw_all := lw_g (lw_at lw_m7 153 rfl) rfl
theorem q1697 : (Jvm.Cond.selects "FastPlane" ({ cls := "FastPlane", name := "grant", desc := "(II)Z" } : Jvm.MethodName) ({ cls := "FastPlane", name := "grant", desc := "(II)Z" } : Jvm.MethodName)) ∈ lw_all := lw_g (lw_at lw_m7 154 rfl) rfl
theorem q1698 : (Jvm.Cond.code ({ cls := "FastPlane", name := "grant", desc := "(II)Z" } : Jvm.MethodName) prog_1_method_59_code (3 : Nat) (Option.some Jvm.ClassFile.FieldType.boolean)) ∈ lw_all := lw_g (lw_at lw_m7 155 rfl) rfl
theorem q1699 : (Jvm.Cond.methodLink "FastPlaneLaw" (155 : Nat) ({ cls := "FastPlane", name := "safe", desc := "(III)I" } : Jvm.MethodName)) ∈ lw_all := lw_g (lw_at lw_m7 156 rfl) rfl
theorem q1700 : (Jvm.Cond.instanceMethod ({ cls := "FastPlane", name := "safe", desc := "(III)I" } : Jvm.MethodName)) ∈ lw_all := lw_g (lw_at lw_m7 157 rfl) rfl
theorem q1701 : (Jvm.Cond.selects "FastPlane" ({ cls := "FastPlane", name := "safe", desc := "(III)I" } : Jvm.MethodName) ({ cls := "FastPlane", name := "safe", desc := "(III)I" } : Jvm.MethodName)) ∈ lw_all := lw_g (lw_at lw_m7 158 rfl) rfl
theorem q1702 : (Jvm.Cond.code ({ cls := "FastPlane", name := "safe", desc := "(III)I" } : Jvm.MethodName) prog_1_method_66_code (4 : Nat) (Option.some Jvm.ClassFile.FieldType.int)) ∈ lw_all := lw_g (lw_at lw_m7 159 rfl) rfl
theorem q1703 : (Jvm.Cond.methodLink "FastPlane" (415 : Nat) ({ cls := "FastPlane", name := "areMoney", desc := "(II)Z" } : Jvm.MethodName)) ∈ lw_all := lw_g (lw_at lw_m7 160 rfl) rfl
theorem q1704 : (Jvm.Cond.static ({ cls := "FastPlane", name := "areMoney", desc := "(II)Z" } : Jvm.MethodName)) ∈ lw_all := lw_g (lw_at lw_m7 161 rfl) rfl
theorem q1705 : (Jvm.Cond.code ({ cls := "FastPlane", name := "areMoney", desc := "(II)Z" } : Jvm.MethodName) prog_1_method_65_code (2 : Nat) (Option.some Jvm.ClassFile.FieldType.boolean)) ∈ lw_all := lw_g (lw_at lw_m7 162 rfl) rfl
theorem q1706 : (Jvm.Cond.methodLink "FastPlane" (419 : Nat) ({ cls := "FastPlane", name := "secure", desc := "()V" } : Jvm.MethodName)) ∈ lw_all := lw_g (lw_at lw_m7 163 rfl) rfl
theorem q1707 : (Jvm.Cond.privateMethod ({ cls := "FastPlane", name := "secure", desc := "()V" } : Jvm.MethodName)) ∈ lw_tbl := lw_at lw_m7 164 rfl
theorem u1707 : (Jvm.Cond.privateMethod ({ cls := "FastPlane", name := "secure", desc := "()V" } : Jvm.MethodName)) ∈ lw_nw := List.mem_filter.mpr ⟨q1707, rfl⟩
theorem q1708 : (Jvm.Cond.instanceMethod ({ cls := "FastPlane", name := "secure", desc := "()V" } : Jvm.MethodName)) ∈ lw_all := lw_g (lw_at lw_m7 165 rfl) rfl
theorem q1709 : (Jvm.Cond.code ({ cls := "FastPlane", name := "secure", desc := "()V" } : Jvm.MethodName) prog_1_method_64_code (6 : Nat) (Option.none : Option Jvm.ClassFile.FieldType)) ∈ lw_all := lw_g (lw_at lw_m7 166 rfl) rfl
theorem q1710 : (Jvm.Cond.methodLink "FastPlane" (402 : Nat) ({ cls := "FastPlane", name := "purse", desc := "(II)I" } : Jvm.MethodName)) ∈ lw_all := lw_g (lw_at lw_m7 167 rfl) rfl
theorem q1711 : (Jvm.Cond.static ({ cls := "FastPlane", name := "purse", desc := "(II)I" } : Jvm.MethodName)) ∈ lw_all := lw_g (lw_at lw_m7 168 rfl) rfl
theorem q1712 : (Jvm.Cond.code ({ cls := "FastPlane", name := "purse", desc := "(II)I" } : Jvm.MethodName) prog_1_method_60_code (2 : Nat) (Option.some Jvm.ClassFile.FieldType.int)) ∈ lw_all := lw_g (lw_at lw_m7 169 rfl) rfl
theorem q1713 : (Jvm.Cond.methodLink "FastPlane" (409 : Nat) ({ cls := "FastPlane", name := "canGoOn", desc := "(IIIII)Z" } : Jvm.MethodName)) ∈ lw_all := lw_g (lw_at lw_m7 170 rfl) rfl
theorem q1714 : (Jvm.Cond.privateMethod ({ cls := "FastPlane", name := "canGoOn", desc := "(IIIII)Z" } : Jvm.MethodName)) ∈ lw_tbl := lw_at lw_m7 171 rfl
theorem u1714 : (Jvm.Cond.privateMethod ({ cls := "FastPlane", name := "canGoOn", desc := "(IIIII)Z" } : Jvm.MethodName)) ∈ lw_nw := List.mem_filter.mpr ⟨q1714, rfl⟩
theorem q1715 : (Jvm.Cond.instanceMethod ({ cls := "FastPlane", name := "canGoOn", desc := "(IIIII)Z" } : Jvm.MethodName)) ∈ lw_all := lw_g (lw_at lw_m7 172 rfl) rfl
theorem q1716 : (Jvm.Cond.code ({ cls := "FastPlane", name := "canGoOn", desc := "(IIIII)Z" } : Jvm.MethodName) prog_1_method_62_code (9 : Nat) (Option.some Jvm.ClassFile.FieldType.boolean)) ∈ lw_all := lw_g (lw_at lw_m7 173 rfl) rfl
theorem q1717 : (Jvm.Cond.methodLink "FastPlane" (405 : Nat) ({ cls := "FastPlane", name := "isSafe", desc := "(IIIII)Z" } : Jvm.MethodName)) ∈ lw_all := lw_g (lw_at lw_m7 174 rfl) rfl
theorem q1718 : (Jvm.Cond.privateMethod ({ cls := "FastPlane", name := "isSafe", desc := "(IIIII)Z" } : Jvm.MethodName)) ∈ lw_tbl := lw_at lw_m7 175 rfl
theorem u1718 : (Jvm.Cond.privateMethod ({ cls := "FastPlane", name := "isSafe", desc := "(IIIII)Z" } : Jvm.MethodName)) ∈ lw_nw := List.mem_filter.mpr ⟨q1718, rfl⟩
theorem q1719 : (Jvm.Cond.instanceMethod ({ cls := "FastPlane", name := "isSafe", desc := "(IIIII)Z" } : Jvm.MethodName)) ∈ lw_all := lw_g (lw_at lw_m7 176 rfl) rfl
theorem q1720 : (Jvm.Cond.code ({ cls := "FastPlane", name := "isSafe", desc := "(IIIII)Z" } : Jvm.MethodName) prog_1_method_61_code (6 : Nat) (Option.some Jvm.ClassFile.FieldType.boolean)) ∈ lw_all := lw_g (lw_at lw_m7 177 rfl) rfl
theorem q1721 : (Jvm.Cond.methodLink "FastPlane" (412 : Nat) ({ cls := "FastPlane", name := "canWait", desc := "(IIIII)Z" } : Jvm.MethodName)) ∈ lw_all := lw_g (lw_at lw_m7 178 rfl) rfl
theorem q1722 : (Jvm.Cond.privateMethod ({ cls := "FastPlane", name := "canWait", desc := "(IIIII)Z" } : Jvm.MethodName)) ∈ lw_tbl := lw_at lw_m7 179 rfl
theorem u1722 : (Jvm.Cond.privateMethod ({ cls := "FastPlane", name := "canWait", desc := "(IIIII)Z" } : Jvm.MethodName)) ∈ lw_nw := List.mem_filter.mpr ⟨q1722, rfl⟩
theorem q1723 : (Jvm.Cond.instanceMethod ({ cls := "FastPlane", name := "canWait", desc := "(IIIII)Z" } : Jvm.MethodName)) ∈ lw_all := lw_g (lw_at lw_m7 180 rfl) rfl
theorem q1724 : (Jvm.Cond.code ({ cls := "FastPlane", name := "canWait", desc := "(IIIII)Z" } : Jvm.MethodName) prog_1_method_63_code (6 : Nat) (Option.some Jvm.ClassFile.FieldType.boolean)) ∈ lw_all := lw_g (lw_at lw_m7 181 rfl) rfl
theorem q1725 : (Jvm.Cond.methodLink "FastPlaneLaw" (159 : Nat) ({ cls := "FastPlane", name := "bears", desc := "(II)I" } : Jvm.MethodName)) ∈ lw_all := lw_g (lw_at lw_m7 182 rfl) rfl
theorem q1726 : (Jvm.Cond.instanceMethod ({ cls := "FastPlane", name := "bears", desc := "(II)I" } : Jvm.MethodName)) ∈ lw_all := lw_g (lw_at lw_m7 183 rfl) rfl
theorem q1727 : (Jvm.Cond.selects "FastPlane" ({ cls := "FastPlane", name := "bears", desc := "(II)I" } : Jvm.MethodName) ({ cls := "FastPlane", name := "bears", desc := "(II)I" } : Jvm.MethodName)) ∈ lw_all := lw_g (lw_at lw_m7 184 rfl) rfl
theorem q1728 : (Jvm.Cond.code ({ cls := "FastPlane", name := "bears", desc := "(II)I" } : Jvm.MethodName) prog_1_method_67_code (4 : Nat) (Option.some Jvm.ClassFile.FieldType.int)) ∈ lw_all := lw_g (lw_at lw_m7 185 rfl) rfl
theorem q1729 : (Jvm.Cond.methodLink "FastPlaneLaw" (163 : Nat) ({ cls := "FastPlane", name := "should", desc := "(III)I" } : Jvm.MethodName)) ∈ lw_all := lw_g (lw_at lw_m7 186 rfl) rfl
theorem q1730 : (Jvm.Cond.instanceMethod ({ cls := "FastPlane", name := "should", desc := "(III)I" } : Jvm.MethodName)) ∈ lw_all := lw_g (lw_at lw_m7 187 rfl) rfl
theorem q1731 : (Jvm.Cond.selects "FastPlane" ({ cls := "FastPlane", name := "should", desc := "(III)I" } : Jvm.MethodName) ({ cls := "FastPlane", name := "should", desc := "(III)I" } : Jvm.MethodName)) ∈ lw_all := lw_g (lw_at lw_m7 188 rfl) rfl
theorem q1732 : (Jvm.Cond.code ({ cls := "FastPlane", name := "should", desc := "(III)I" } : Jvm.MethodName) prog_1_method_68_code (4 : Nat) (Option.some Jvm.ClassFile.FieldType.int)) ∈ lw_all := lw_g (lw_at lw_m7 189 rfl) rfl
theorem q1733 : (Jvm.Cond.methodLink "FastPlane" (422 : Nat) ({ cls := "FastPlane", name := "safe", desc := "(III)I" } : Jvm.MethodName)) ∈ lw_all := lw_g (lw_at lw_m7 190 rfl) rfl
theorem q1734 : (Jvm.Cond.methodLink "FastPlaneLaw" (167 : Nat) ({ cls := "FastPlane", name := "about", desc := "(I)I" } : Jvm.MethodName)) ∈ lw_all := lw_g (lw_at lw_m7 191 rfl) rfl
theorem q1735 : (Jvm.Cond.instanceMethod ({ cls := "FastPlane", name := "about", desc := "(I)I" } : Jvm.MethodName)) ∈ lw_all := lw_g (lw_at lw_m7 192 rfl) rfl
theorem q1736 : (Jvm.Cond.selects "FastPlane" ({ cls := "FastPlane", name := "about", desc := "(I)I" } : Jvm.MethodName) ({ cls := "FastPlane", name := "about", desc := "(I)I" } : Jvm.MethodName)) ∈ lw_all := lw_g (lw_at lw_m7 193 rfl) rfl
theorem q1737 : (Jvm.Cond.code ({ cls := "FastPlane", name := "about", desc := "(I)I" } : Jvm.MethodName) prog_1_method_69_code (2 : Nat) (Option.some Jvm.ClassFile.FieldType.int)) ∈ lw_all := lw_g (lw_at lw_m7 194 rfl) rfl
theorem q1738 : (Jvm.Cond.classLink "FastPlaneLaw" (10 : Nat) "FastPlaneModel") ∈ lw_all := lw_g (lw_at lw_m7 195 rfl) rfl
theorem q1739 : (Jvm.Cond.instantiable "FastPlaneModel" (94 : Nat)) ∈ lw_all := lw_g (lw_at lw_m7 196 rfl) rfl
theorem q1740 : (Jvm.Cond.methodLink "FastPlaneLaw" (12 : Nat) ({ cls := "FastPlaneModel", name := "<init>", desc := "()V" } : Jvm.MethodName)) ∈ lw_all := lw_g (lw_at lw_m7 197 rfl) rfl
theorem q1741 : (Jvm.Cond.instanceMethod ({ cls := "FastPlaneModel", name := "<init>", desc := "()V" } : Jvm.MethodName)) ∈ lw_all := lw_g (lw_at lw_m7 198 rfl) rfl
theorem q1742 : (Jvm.Cond.code ({ cls := "FastPlaneModel", name := "<init>", desc := "()V" } : Jvm.MethodName) prog_24_method_1_code (1 : Nat) (Option.none : Option Jvm.ClassFile.FieldType)) ∈ lw_all := lw_g (lw_at lw_m7 199 rfl) rfl
theorem q1743 : (Jvm.Cond.methodLink "FastPlaneModel" (1 : Nat) ({ cls := "java/lang/Object", name := "<init>", desc := "()V" } : Jvm.MethodName)) ∈ lw_all := lw_g (lw_at lw_m7 200 rfl) rfl
theorem q1744 : (Jvm.Cond.constant "FastPlaneModel" (134 : Nat) (53248 : Int32)) ∈ lw_all := lw_g (lw_at lw_m7 201 rfl) rfl
theorem q1745 : (Jvm.Cond.constant "FastPlaneModel" (168 : Nat) (302715 : Int32)) ∈ lw_all := lw_g (lw_at lw_m7 202 rfl) rfl
theorem q1746 : (Jvm.Cond.fieldLink "FastPlaneModel" (7 : Nat) "FastPlaneModel" "tape" "[B") ∈ lw_all := lw_g (lw_at lw_m7 203 rfl) rfl
theorem q1747 : (Jvm.Cond.fieldLink "FastPlaneModel" (13 : Nat) "FastPlaneModel" "text" "[B") ∈ lw_all := lw_g (lw_at lw_m7 204 rfl) rfl
theorem q1748 : (Jvm.Cond.fieldLink "FastPlaneModel" (294 : Nat) "FastPlaneModel" "taped" "I") ∈ lw_all := lw_g (lw_at lw_m7 205 rfl) rfl
theorem q1749 : (Jvm.Cond.fieldLink "FastPlaneModel" (172 : Nat) "FastPlaneModel" "size" "I") ∈ lw_all := lw_g (lw_at lw_m7 206 rfl) rfl
theorem q1750 : (Jvm.Cond.fieldLink "FastPlaneModel" (175 : Nat) "FastPlaneModel" "faultKind" "I") ∈ lw_all := lw_g (lw_at lw_m7 207 rfl) rfl
theorem q1751 : (Jvm.Cond.fieldLink "FastPlaneModel" (16 : Nat) "FastPlaneModel" "faultPlace" "I") ∈ lw_all := lw_g (lw_at lw_m7 208 rfl) rfl
theorem q1752 : (Jvm.Cond.fieldLink "FastPlaneModel" (249 : Nat) "FastPlaneModel" "at" "I") ∈ lw_all := lw_g (lw_at lw_m7 209 rfl) rfl
theorem q1753 : (Jvm.Cond.fieldLink "FastPlaneModel" (246 : Nat) "FastPlaneModel" "end" "I") ∈ lw_all := lw_g (lw_at lw_m7 210 rfl) rfl
theorem q1754 : (Jvm.Cond.fieldLink "FastPlaneModel" (256 : Nat) "FastPlaneModel" "token" "I") ∈ lw_all := lw_g (lw_at lw_m7 211 rfl) rfl
theorem q1755 : (Jvm.Cond.fieldLink "FastPlaneModel" (274 : Nat) "FastPlaneModel" "number" "I") ∈ lw_all := lw_g (lw_at lw_m7 212 rfl) rfl
theorem q1756 : (Jvm.Cond.fieldLink "FastPlaneModel" (263 : Nat) "FastPlaneModel" "name" "J") ∈ lw_all := lw_g (lw_at lw_m7 213 rfl) rfl
theorem q1757 : (Jvm.Cond.fieldLink "FastPlaneModel" (20 : Nat) "FastPlaneModel" "lineMany" "[I") ∈ lw_all := lw_g (lw_at lw_m7 214 rfl) rfl
theorem q1758 : (Jvm.Cond.fieldLink "FastPlaneModel" (24 : Nat) "FastPlaneModel" "partMany" "[I") ∈ lw_all := lw_g (lw_at lw_m7 215 rfl) rfl
theorem q1759 : (Jvm.Cond.fieldLink "FastPlaneModel" (27 : Nat) "FastPlaneModel" "joinMany" "[I") ∈ lw_all := lw_g (lw_at lw_m7 216 rfl) rfl
theorem q1760 : (Jvm.Cond.fieldLink "FastPlaneModel" (30 : Nat) "FastPlaneModel" "moveMany" "[I") ∈ lw_all := lw_g (lw_at lw_m7 217 rfl) rfl
theorem q1761 : (Jvm.Cond.fieldLink "FastPlaneModel" (33 : Nat) "FastPlaneModel" "tankMany" "[I") ∈ lw_all := lw_g (lw_at lw_m7 218 rfl) rfl
theorem q1762 : (Jvm.Cond.fieldLink "FastPlaneModel" (36 : Nat) "FastPlaneModel" "pBy" "[I") ∈ lw_all := lw_g (lw_at lw_m7 219 rfl) rfl
theorem q1763 : (Jvm.Cond.fieldLink "FastPlaneModel" (39 : Nat) "FastPlaneModel" "pBase" "[I") ∈ lw_all := lw_g (lw_at lw_m7 220 rfl) rfl
theorem q1764 : (Jvm.Cond.fieldLink "FastPlaneModel" (42 : Nat) "FastPlaneModel" "pGrows" "[I") ∈ lw_all := lw_g (lw_at lw_m7 221 rfl) rfl
theorem q1765 : (Jvm.Cond.fieldLink "FastPlaneModel" (45 : Nat) "FastPlaneModel" "pCosts" "[I") ∈ lw_all := lw_g (lw_at lw_m7 222 rfl) rfl
theorem q1766 : (Jvm.Cond.fieldLink "FastPlaneModel" (48 : Nat) "FastPlaneModel" "jA" "[I") ∈ lw_all := lw_g (lw_at lw_m7 223 rfl) rfl
theorem q1767 : (Jvm.Cond.fieldLink "FastPlaneModel" (51 : Nat) "FastPlaneModel" "jB" "[I") ∈ lw_all := lw_g (lw_at lw_m7 224 rfl) rfl
theorem q1768 : (Jvm.Cond.fieldLink "FastPlaneModel" (54 : Nat) "FastPlaneModel" "jGap" "[I") ∈ lw_all := lw_g (lw_at lw_m7 225 rfl) rfl
theorem q1769 : (Jvm.Cond.fieldLink "FastPlaneModel" (57 : Nat) "FastPlaneModel" "mA" "[I") ∈ lw_all := lw_g (lw_at lw_m7 226 rfl) rfl
theorem q1770 : (Jvm.Cond.fieldLink "FastPlaneModel" (60 : Nat) "FastPlaneModel" "mB" "[I") ∈ lw_all := lw_g (lw_at lw_m7 227 rfl) rfl
theorem q1771 : (Jvm.Cond.fieldLink "FastPlaneModel" (63 : Nat) "FastPlaneModel" "mAfter" "[I") ∈ lw_all := lw_g (lw_at lw_m7 228 rfl) rfl
theorem q1772 : (Jvm.Cond.fieldLink "FastPlaneModel" (66 : Nat) "FastPlaneModel" "tAt" "[I") ∈ lw_all := lw_g (lw_at lw_m7 229 rfl) rfl
theorem q1773 : (Jvm.Cond.fieldLink "FastPlaneModel" (69 : Nat) "FastPlaneModel" "tHolds" "[I") ∈ lw_all := lw_g (lw_at lw_m7 230 rfl) rfl
theorem q1774 : (Jvm.Cond.fieldLink "FastPlaneModel" (72 : Nat) "FastPlaneModel" "grounds" "[I") ∈ lw_all := lw_g (lw_at lw_m7 231 rfl) rfl
theorem q1775 : (Jvm.Cond.fieldLink "FastPlaneModel" (75 : Nat) "FastPlaneModel" "hasRow" "[Z") ∈ lw_all := lw_g (lw_at lw_m7 232 rfl) rfl
theorem q1776 : (Jvm.Cond.fieldLink "FastPlaneModel" (79 : Nat) "FastPlaneModel" "pName" "[J") ∈ lw_all := lw_g (lw_at lw_m7 233 rfl) rfl
theorem q1777 : (Jvm.Cond.fieldLink "FastPlaneModel" (300 : Nat) "FastPlaneModel" "bank" "I") ∈ lw_all := lw_g (lw_at lw_m7 234 rfl) rfl
theorem q1778 : (Jvm.Cond.fieldLink "FastPlaneModel" (303 : Nat) "FastPlaneModel" "rb" "I") ∈ lw_all := lw_g (lw_at lw_m7 235 rfl) rfl
theorem q1779 : (Jvm.Cond.fieldLink "FastPlaneModel" (376 : Nat) "FastPlaneModel" "mendPart" "I") ∈ lw_all := lw_g (lw_at lw_m7 236 rfl) rfl
theorem q1780 : (Jvm.Cond.fieldLink "FastPlaneModel" (379 : Nat) "FastPlaneModel" "mendMm" "I") ∈ lw_all := lw_g (lw_at lw_m7 237 rfl) rfl
theorem q1781 : (Jvm.Cond.fieldLink "FastPlaneModel" (385 : Nat) "FastPlaneModel" "mendFits" "I") ∈ lw_all := lw_g (lw_at lw_m7 238 rfl) rfl
theorem q1782 : (Jvm.Cond.fieldLink "FastPlaneModel" (83 : Nat) "FastPlaneModel" "treatyLines" "[I") ∈ lw_all := lw_g (lw_at lw_m7 239 rfl) rfl
theorem q1783 : (Jvm.Cond.fieldLink "FastPlaneModel" (86 : Nat) "FastPlaneModel" "uFrom" "[I") ∈ lw_all := lw_g (lw_at lw_m8 0 rfl) rfl
theorem q1784 : (Jvm.Cond.fieldLink "FastPlaneModel" (89 : Nat) "FastPlaneModel" "uTo" "[I") ∈ lw_all := lw_g (lw_at lw_m8 1 rfl) rfl
theorem q1785 : (Jvm.Cond.fieldLink "FastPlaneModel" (92 : Nat) "FastPlaneModel" "code" "[I") ∈ lw_all := lw_g (lw_at lw_m8 2 rfl) rfl
theorem q1786 : (Jvm.Cond.fieldLink "FastPlaneModel" (95 : Nat) "FastPlaneModel" "codeNumber" "[I") ∈ lw_all := lw_g (lw_at lw_m8 3 rfl) rfl
theorem q1787 : (Jvm.Cond.fieldLink "FastPlaneModel" (98 : Nat) "FastPlaneModel" "eWhat" "[I") ∈ lw_all := lw_g (lw_at lw_m8 4 rfl) rfl
theorem q1788 : (Jvm.Cond.fieldLink "FastPlaneModel" (101 : Nat) "FastPlaneModel" "eSign" "[I") ∈ lw_all := lw_g (lw_at lw_m8 5 rfl) rfl
theorem q1789 : (Jvm.Cond.fieldLink "FastPlaneModel" (104 : Nat) "FastPlaneModel" "pile" "[I") ∈ lw_all := lw_g (lw_at lw_m8 6 rfl) rfl
theorem q1790 : (Jvm.Cond.fieldLink "FastPlaneModel" (107 : Nat) "FastPlaneModel" "hasE" "[Z") ∈ lw_all := lw_g (lw_at lw_m8 7 rfl) rfl
theorem q1791 : (Jvm.Cond.fieldLink "FastPlaneModel" (394 : Nat) "FastPlaneModel" "codes" "I") ∈ lw_all := lw_g (lw_at lw_m8 8 rfl) rfl
theorem q1792 : (Jvm.Cond.fieldLink "FastPlaneModel" (397 : Nat) "FastPlaneModel" "units" "I") ∈ lw_all := lw_g (lw_at lw_m8 9 rfl) rfl
theorem q1793 : (Jvm.Cond.fieldLink "FastPlaneModel" (412 : Nat) "FastPlaneModel" "deep" "I") ∈ lw_all := lw_g (lw_at lw_m8 10 rfl) rfl
theorem q1794 : (Jvm.Cond.fieldLink "FastPlaneModel" (409 : Nat) "FastPlaneModel" "piled" "I") ∈ lw_all := lw_g (lw_at lw_m8 11 rfl) rfl
theorem q1795 : (Jvm.Cond.fieldLink "FastPlaneModel" (403 : Nat) "FastPlaneModel" "lineNow" "I") ∈ lw_all := lw_g (lw_at lw_m8 12 rfl) rfl
theorem q1796 : (Jvm.Cond.fieldLink "FastPlaneModel" (439 : Nat) "FastPlaneModel" "qLand" "I") ∈ lw_all := lw_g (lw_at lw_m8 13 rfl) rfl
theorem q1797 : (Jvm.Cond.fieldLink "FastPlaneModel" (442 : Nat) "FastPlaneModel" "qCost" "I") ∈ lw_all := lw_g (lw_at lw_m8 14 rfl) rfl
theorem q1798 : (Jvm.Cond.fieldLink "FastPlaneModel" (445 : Nat) "FastPlaneModel" "qMonth" "I") ∈ lw_all := lw_g (lw_at lw_m8 15 rfl) rfl
theorem q1799 : (Jvm.Cond.fieldLink "FastPlaneModel" (448 : Nat) "FastPlaneModel" "qOver" "I") ∈ lw_all := lw_g (lw_at lw_m8 16 rfl) rfl
theorem q1800 : (Jvm.Cond.fieldLink "FastPlaneModel" (451 : Nat) "FastPlaneModel" "qGround" "I") ∈ lw_all := lw_g (lw_at lw_m8 17 rfl) rfl
theorem q1801 : (Jvm.Cond.fieldLink "FastPlaneModel" (454 : Nat) "FastPlaneModel" "qHour" "I") ∈ lw_all := lw_g (lw_at lw_m8 18 rfl) rfl
theorem q1802 : (Jvm.Cond.fieldLink "FastPlaneModel" (457 : Nat) "FastPlaneModel" "qSpeed" "I") ∈ lw_all := lw_g (lw_at lw_m8 19 rfl) rfl
theorem q1803 : (Jvm.Cond.fieldLink "FastPlaneModel" (460 : Nat) "FastPlaneModel" "qAirline" "I") ∈ lw_all := lw_g (lw_at lw_m8 20 rfl) rfl
theorem q1804 : (Jvm.Cond.fieldLink "FastPlaneModel" (463 : Nat) "FastPlaneModel" "qShown" "I") ∈ lw_all := lw_g (lw_at lw_m8 21 rfl) rfl
theorem q1805 : (Jvm.Cond.fieldLink "FastPlaneModel" (466 : Nat) "FastPlaneModel" "qOthers" "I") ∈ lw_all := lw_g (lw_at lw_m8 22 rfl) rfl
theorem q1806 : (Jvm.Cond.fieldLink "FastPlaneModel" (469 : Nat) "FastPlaneModel" "qPrice" "I") ∈ lw_all := lw_g (lw_at lw_m8 23 rfl) rfl
theorem q1807 : (Jvm.Cond.fieldLink "FastPlaneModel" (110 : Nat) "FastPlaneModel" "fKind" "[I") ∈ lw_all := lw_g (lw_at lw_m8 24 rfl) rfl
theorem q1808 : (Jvm.Cond.fieldLink "FastPlaneModel" (113 : Nat) "FastPlaneModel" "fOne" "[I") ∈ lw_all := lw_g (lw_at lw_m8 25 rfl) rfl
theorem q1809 : (Jvm.Cond.fieldLink "FastPlaneModel" (116 : Nat) "FastPlaneModel" "fTwo" "[I") ∈ lw_all := lw_g (lw_at lw_m8 26 rfl) rfl
theorem q1810 : (Jvm.Cond.fieldLink "FastPlaneModel" (119 : Nat) "FastPlaneModel" "fTold" "[I") ∈ lw_all := lw_g (lw_at lw_m8 27 rfl) rfl
theorem q1811 : (Jvm.Cond.fieldLink "FastPlaneModel" (122 : Nat) "FastPlaneModel" "fUntold" "[I") ∈ lw_all := lw_g (lw_at lw_m8 28 rfl) rfl
theorem q1812 : (Jvm.Cond.fieldLink "FastPlaneModel" (125 : Nat) "FastPlaneModel" "movesAt" "[I") ∈ lw_all := lw_g (lw_at lw_m8 29 rfl) rfl
theorem q1813 : (Jvm.Cond.fieldLink "FastPlaneModel" (309 : Nat) "FastPlaneModel" "facts" "I") ∈ lw_all := lw_g (lw_at lw_m8 30 rfl) rfl
theorem q1814 : (Jvm.Cond.fieldLink "FastPlaneModel" (492 : Nat) "FastPlaneModel" "time" "I") ∈ lw_all := lw_g (lw_at lw_m8 31 rfl) rfl
theorem q1815 : (Jvm.Cond.fieldLink "FastPlaneModel" (128 : Nat) "FastPlaneModel" "from" "[I") ∈ lw_all := lw_g (lw_at lw_m8 32 rfl) rfl
theorem q1816 : (Jvm.Cond.fieldLink "FastPlaneModel" (131 : Nat) "FastPlaneModel" "to" "[I") ∈ lw_all := lw_g (lw_at lw_m8 33 rfl) rfl
theorem q1817 : (Jvm.Cond.fieldLink "FastPlaneModel" (135 : Nat) "FastPlaneModel" "least" "[I") ∈ lw_all := lw_g (lw_at lw_m8 34 rfl) rfl
theorem q1818 : (Jvm.Cond.fieldLink "FastPlaneModel" (138 : Nat) "FastPlaneModel" "fuel" "[I") ∈ lw_all := lw_g (lw_at lw_m8 35 rfl) rfl
theorem q1819 : (Jvm.Cond.fieldLink "FastPlaneModel" (312 : Nat) "FastPlaneModel" "steps" "I") ∈ lw_all := lw_g (lw_at lw_m8 36 rfl) rfl
theorem q1820 : (Jvm.Cond.fieldLink "FastPlaneModel" (141 : Nat) "FastPlaneModel" "pump" "I") ∈ lw_all := lw_g (lw_at lw_m8 37 rfl) rfl
theorem q1821 : (Jvm.Cond.fieldLink "FastPlaneModel" (526 : Nat) "FastPlaneModel" "moveNumber" "I") ∈ lw_all := lw_g (lw_at lw_m8 38 rfl) rfl
theorem q1822 : (Jvm.Cond.fieldLink "FastPlaneModel" (533 : Nat) "FastPlaneModel" "moveState" "I") ∈ lw_all := lw_g (lw_at lw_m8 39 rfl) rfl
theorem q1823 : (Jvm.Cond.fieldLink "FastPlaneModel" (144 : Nat) "FastPlaneModel" "minutes" "[I") ∈ lw_all := lw_g (lw_at lw_m8 40 rfl) rfl
theorem q1824 : (Jvm.Cond.fieldLink "FastPlaneModel" (147 : Nat) "FastPlaneModel" "aPrice" "[I") ∈ lw_all := lw_g (lw_at lw_m8 41 rfl) rfl
theorem q1825 : (Jvm.Cond.fieldLink "FastPlaneModel" (150 : Nat) "FastPlaneModel" "aMonth" "[I") ∈ lw_all := lw_g (lw_at lw_m8 42 rfl) rfl
theorem q1826 : (Jvm.Cond.fieldLink "FastPlaneModel" (153 : Nat) "FastPlaneModel" "lapsedIn" "[I") ∈ lw_all := lw_g (lw_at lw_m8 43 rfl) rfl
theorem q1827 : (Jvm.Cond.fieldLink "FastPlaneModel" (552 : Nat) "FastPlaneModel" "airlines" "I") ∈ lw_all := lw_g (lw_at lw_m8 44 rfl) rfl
theorem q1828 : (Jvm.Cond.fieldLink "FastPlaneModel" (156 : Nat) "FastPlaneModel" "makes" "[I") ∈ lw_all := lw_g (lw_at lw_m8 45 rfl) rfl
theorem q1829 : (Jvm.Cond.fieldLink "FastPlaneModel" (159 : Nat) "FastPlaneModel" "bestMakes" "[I") ∈ lw_all := lw_g (lw_at lw_m8 46 rfl) rfl
theorem q1830 : (Jvm.Cond.fieldLink "FastPlaneModel" (570 : Nat) "FastPlaneModel" "sharedBest" "I") ∈ lw_all := lw_g (lw_at lw_m8 47 rfl) rfl
theorem q1831 : (Jvm.Cond.fieldLink "FastPlaneModel" (561 : Nat) "FastPlaneModel" "shareOne" "I") ∈ lw_all := lw_g (lw_at lw_m8 48 rfl) rfl
theorem q1832 : (Jvm.Cond.fieldLink "FastPlaneModel" (564 : Nat) "FastPlaneModel" "shareTwo" "I") ∈ lw_all := lw_g (lw_at lw_m8 49 rfl) rfl
theorem q1833 : (Jvm.Cond.fieldLink "FastPlaneModel" (567 : Nat) "FastPlaneModel" "shareBoth" "I") ∈ lw_all := lw_g (lw_at lw_m8 50 rfl) rfl
theorem q1834 : (Jvm.Cond.fieldLink "FastPlaneModel" (162 : Nat) "FastPlaneModel" "stageCost" "[I") ∈ lw_all := lw_g (lw_at lw_m8 51 rfl) rfl
theorem q1835 : (Jvm.Cond.fieldLink "FastPlaneModel" (165 : Nat) "FastPlaneModel" "stagePart" "[I") ∈ lw_all := lw_g (lw_at lw_m8 52 rfl) rfl
theorem q1836 : (Jvm.Cond.fieldLink "FastPlaneModel" (169 : Nat) "FastPlaneModel" "isSafe" "[Z") ∈ lw_all := lw_g (lw_at lw_m8 53 rfl) rfl
theorem q1837 : (Jvm.Cond.fieldLink "FastPlaneModel" (582 : Nat) "FastPlaneModel" "stages" "I") ∈ lw_all := lw_g (lw_at lw_m8 54 rfl) rfl
theorem q1838 : (Jvm.Cond.fieldLink "FastPlaneModel" (585 : Nat) "FastPlaneModel" "grant" "I") ∈ lw_all := lw_g (lw_at lw_m8 55 rfl) rfl
theorem q1839 : (Jvm.Cond.fieldLink "FastPlaneModel" (588 : Nat) "FastPlaneModel" "slack" "I") ∈ lw_all := lw_g (lw_at lw_m8 56 rfl) rfl
theorem q2029 : (Jvm.Cond.arrayClass Jvm.ClassFile.FieldType.long) ∈ lw_all := lw_g (lw_at lw_m9 6 rfl) rfl
theorem q2030 : (Jvm.Cond.methodLink "FastPlaneLaw" (27 : Nat) ({ cls := "FastPlaneModel", name := "machine", desc := "()I" } : Jvm.MethodName)) ∈ lw_all := lw_g (lw_at lw_m9 7 rfl) rfl
theorem q2031 : (Jvm.Cond.instanceMethod ({ cls := "FastPlaneModel", name := "machine", desc := "()I" } : Jvm.MethodName)) ∈ lw_all := lw_g (lw_at lw_m9 8 rfl) rfl
theorem q2032 : (Jvm.Cond.selects "FastPlaneModel" ({ cls := "FastPlaneModel", name := "machine", desc := "()I" } : Jvm.MethodName) ({ cls := "FastPlaneModel", name := "machine", desc := "()I" } : Jvm.MethodName)) ∈ lw_all := lw_g (lw_at lw_m9 9 rfl) rfl
theorem q2033 : (Jvm.Cond.code ({ cls := "FastPlaneModel", name := "machine", desc := "()I" } : Jvm.MethodName) prog_24_method_16_code (2 : Nat) (Option.some Jvm.ClassFile.FieldType.int)) ∈ lw_all := lw_g (lw_at lw_m9 10 rfl) rfl
theorem q2034 : (Jvm.Cond.methodLink "FastPlaneModel" (297 : Nat) ({ cls := "FastPlaneModel", name := "takeTape", desc := "()V" } : Jvm.MethodName)) ∈ lw_all := lw_g (lw_at lw_m9 11 rfl) rfl
theorem q2035 : (Jvm.Cond.privateMethod ({ cls := "FastPlaneModel", name := "takeTape", desc := "()V" } : Jvm.MethodName)) ∈ lw_tbl := lw_at lw_m9 12 rfl
theorem u2035 : (Jvm.Cond.privateMethod ({ cls := "FastPlaneModel", name := "takeTape", desc := "()V" } : Jvm.MethodName)) ∈ lw_nw := List.mem_filter.mpr ⟨q2035, rfl⟩
theorem q2036 : (Jvm.Cond.instanceMethod ({ cls := "FastPlaneModel", name := "takeTape", desc := "()V" } : Jvm.MethodName)) ∈ lw_all := lw_g (lw_at lw_m9 13 rfl) rfl
theorem q2037 : (Jvm.Cond.code ({ cls := "FastPlaneModel", name := "takeTape", desc := "()V" } : Jvm.MethodName) prog_24_method_15_code (2 : Nat) (Option.none : Option Jvm.ClassFile.FieldType)) ∈ lw_all := lw_g (lw_at lw_m9 14 rfl) rfl
theorem q2038 : (Jvm.Cond.methodLink "FastPlaneModel" (288 : Nat) ({ cls := "FastPlaneModel", name := "next", desc := "()V" } : Jvm.MethodName)) ∈ lw_all := lw_g (lw_at lw_m9 15 rfl) rfl
theorem q2039 : (Jvm.Cond.privateMethod ({ cls := "FastPlaneModel", name := "next", desc := "()V" } : Jvm.MethodName)) ∈ lw_tbl := lw_at lw_m9 16 rfl
theorem u2039 : (Jvm.Cond.privateMethod ({ cls := "FastPlaneModel", name := "next", desc := "()V" } : Jvm.MethodName)) ∈ lw_nw := List.mem_filter.mpr ⟨q2039, rfl⟩
theorem q2040 : (Jvm.Cond.instanceMethod ({ cls := "FastPlaneModel", name := "next", desc := "()V" } : Jvm.MethodName)) ∈ lw_all := lw_g (lw_at lw_m9 17 rfl) rfl
theorem q2041 : (Jvm.Cond.code ({ cls := "FastPlaneModel", name := "next", desc := "()V" } : Jvm.MethodName) prog_24_method_9_code (3 : Nat) (Option.none : Option Jvm.ClassFile.FieldType)) ∈ lw_all := lw_g (lw_at lw_m9 18 rfl) rfl
theorem q2042 : (Jvm.Cond.methodLink "FastPlaneModel" (252 : Nat) ({ cls := "FastPlaneModel", name := "sign", desc := "(I)I" } : Jvm.MethodName)) ∈ lw_all := lw_g (lw_at lw_m9 19 rfl) rfl
theorem q2043 : (Jvm.Cond.privateMethod ({ cls := "FastPlaneModel", name := "sign", desc := "(I)I" } : Jvm.MethodName)) ∈ lw_tbl := lw_at lw_m9 20 rfl
theorem u2043 : (Jvm.Cond.privateMethod ({ cls := "FastPlaneModel", name := "sign", desc := "(I)I" } : Jvm.MethodName)) ∈ lw_nw := List.mem_filter.mpr ⟨q2043, rfl⟩
theorem q2044 : (Jvm.Cond.instanceMethod ({ cls := "FastPlaneModel", name := "sign", desc := "(I)I" } : Jvm.MethodName)) ∈ lw_all := lw_g (lw_at lw_m9 21 rfl) rfl
theorem q2045 : (Jvm.Cond.code ({ cls := "FastPlaneModel", name := "sign", desc := "(I)I" } : Jvm.MethodName) prog_24_method_2_code (2 : Nat) (Option.some Jvm.ClassFile.FieldType.int)) ∈ lw_all := lw_g (lw_at lw_m9 22 rfl) rfl
theorem q2046 : (Jvm.Cond.methodLink "FastPlaneModel" (259 : Nat) ({ cls := "FastPlaneModel", name := "isLetter", desc := "(I)Z" } : Jvm.MethodName)) ∈ lw_all := lw_g (lw_at lw_m9 23 rfl) rfl
theorem q2047 : (Jvm.Cond.static ({ cls := "FastPlaneModel", name := "isLetter", desc := "(I)Z" } : Jvm.MethodName)) ∈ lw_all := lw_g (lw_at lw_m9 24 rfl) rfl
theorem q2048 : (Jvm.Cond.code ({ cls := "FastPlaneModel", name := "isLetter", desc := "(I)Z" } : Jvm.MethodName) prog_24_method_3_code (1 : Nat) (Option.some Jvm.ClassFile.FieldType.boolean)) ∈ lw_all := lw_g (lw_at lw_m9 25 rfl) rfl
theorem q2049 : (Jvm.Cond.methodLink "FastPlaneModel" (267 : Nat) ({ cls := "FastPlaneModel", name := "isKept", desc := "(J)Z" } : Jvm.MethodName)) ∈ lw_all := lw_g (lw_at lw_m9 26 rfl) rfl
theorem q2050 : (Jvm.Cond.static ({ cls := "FastPlaneModel", name := "isKept", desc := "(J)Z" } : Jvm.MethodName)) ∈ lw_all := lw_g (lw_at lw_m9 27 rfl) rfl
theorem q2051 : (Jvm.Cond.code ({ cls := "FastPlaneModel", name := "isKept", desc := "(J)Z" } : Jvm.MethodName) prog_24_method_7_code (4 : Nat) (Option.some Jvm.ClassFile.FieldType.boolean)) ∈ lw_all := lw_g (lw_at lw_m9 28 rfl) rfl
theorem q2052 : (Jvm.Cond.constantLong "FastPlaneModel" (178 : Nat) (1885434484 : Int64)) ∈ lw_all := lw_g (lw_at lw_m9 29 rfl) rfl
theorem q2053 : (Jvm.Cond.constantLong "FastPlaneModel" (180 : Nat) (25209 : Int64)) ∈ lw_all := lw_g (lw_at lw_m9 30 rfl) rfl
theorem q2054 : (Jvm.Cond.constantLong "FastPlaneModel" (182 : Nat) (1819242087 : Int64)) ∈ lw_all := lw_g (lw_at lw_m9 31 rfl) rfl
theorem q2055 : (Jvm.Cond.constantLong "FastPlaneModel" (184 : Nat) (25453 : Int64)) ∈ lw_all := lw_g (lw_at lw_m9 32 rfl) rfl
theorem q2056 : (Jvm.Cond.constantLong "FastPlaneModel" (186 : Nat) (1768842088 : Int64)) ∈ lw_all := lw_g (lw_at lw_m9 33 rfl) rfl
theorem q2057 : (Jvm.Cond.constantLong "FastPlaneModel" (188 : Nat) (444301539187 : Int64)) ∈ lw_all := lw_g (lw_at lw_m9 34 rfl) rfl
theorem q2058 : (Jvm.Cond.constantLong "FastPlaneModel" (190 : Nat) (427071599731 : Int64)) ∈ lw_all := lw_g (lw_at lw_m9 35 rfl) rfl
theorem q2059 : (Jvm.Cond.constantLong "FastPlaneModel" (192 : Nat) (1785686382 : Int64)) ∈ lw_all := lw_g (lw_at lw_m9 36 rfl) rfl
theorem q2060 : (Jvm.Cond.constantLong "FastPlaneModel" (194 : Nat) (6775152 : Int64)) ∈ lw_all := lw_g (lw_at lw_m9 37 rfl) rfl
theorem q2061 : (Jvm.Cond.constantLong "FastPlaneModel" (196 : Nat) (470021465459 : Int64)) ∈ lw_all := lw_g (lw_at lw_m9 38 rfl) rfl
theorem q2062 : (Jvm.Cond.constantLong "FastPlaneModel" (198 : Nat) (418330731890 : Int64)) ∈ lw_all := lw_g (lw_at lw_m9 39 rfl) rfl
theorem q2063 : (Jvm.Cond.constantLong "FastPlaneModel" (200 : Nat) (1952542315 : Int64)) ∈ lw_all := lw_g (lw_at lw_m9 40 rfl) rfl
theorem q2064 : (Jvm.Cond.constantLong "FastPlaneModel" (202 : Nat) (24948 : Int64)) ∈ lw_all := lw_g (lw_at lw_m9 41 rfl) rfl
theorem q2065 : (Jvm.Cond.constantLong "FastPlaneModel" (204 : Nat) (448545973363 : Int64)) ∈ lw_all := lw_g (lw_at lw_m9 42 rfl) rfl
theorem q2066 : (Jvm.Cond.constantLong "FastPlaneModel" (206 : Nat) (7499639 : Int64)) ∈ lw_all := lw_g (lw_at lw_m9 43 rfl) rfl
theorem q2067 : (Jvm.Cond.constantLong "FastPlaneModel" (208 : Nat) (495672455781 : Int64)) ∈ lw_all := lw_g (lw_at lw_m9 44 rfl) rfl
theorem q2068 : (Jvm.Cond.constantLong "FastPlaneModel" (210 : Nat) (465557354085 : Int64)) ∈ lw_all := lw_g (lw_at lw_m9 45 rfl) rfl
theorem q2069 : (Jvm.Cond.constantLong "FastPlaneModel" (212 : Nat) (6712441 : Int64)) ∈ lw_all := lw_g (lw_at lw_m9 46 rfl) rfl
theorem q2070 : (Jvm.Cond.constantLong "FastPlaneModel" (214 : Nat) (1801807216 : Int64)) ∈ lw_all := lw_g (lw_at lw_m9 47 rfl) rfl
theorem q2071 : (Jvm.Cond.constantLong "FastPlaneModel" (216 : Nat) (2003330414 : Int64)) ∈ lw_all := lw_g (lw_at lw_m9 48 rfl) rfl
theorem q2072 : (Jvm.Cond.constantLong "FastPlaneModel" (218 : Nat) (6385252 : Int64)) ∈ lw_all := lw_g (lw_at lw_m9 49 rfl) rfl
theorem q2073 : (Jvm.Cond.constantLong "FastPlaneModel" (220 : Nat) (28530 : Int64)) ∈ lw_all := lw_g (lw_at lw_m9 50 rfl) rfl
theorem q2074 : (Jvm.Cond.constantLong "FastPlaneModel" (222 : Nat) (7237492 : Int64)) ∈ lw_all := lw_g (lw_at lw_m9 51 rfl) rfl
theorem q2075 : (Jvm.Cond.constantLong "FastPlaneModel" (224 : Nat) (1818324580 : Int64)) ∈ lw_all := lw_g (lw_at lw_m9 52 rfl) rfl
theorem q2076 : (Jvm.Cond.constantLong "FastPlaneModel" (226 : Nat) (1668248436 : Int64)) ∈ lw_all := lw_g (lw_at lw_m9 53 rfl) rfl
theorem q2077 : (Jvm.Cond.constantLong "FastPlaneModel" (228 : Nat) (470020945000 : Int64)) ∈ lw_all := lw_g (lw_at lw_m9 54 rfl) rfl
theorem q2078 : (Jvm.Cond.constantLong "FastPlaneModel" (230 : Nat) (1870030194 : Int64)) ∈ lw_all := lw_g (lw_at lw_m9 55 rfl) rfl
theorem q2079 : (Jvm.Cond.constantLong "FastPlaneModel" (232 : Nat) (113741193899620 : Int64)) ∈ lw_all := lw_g (lw_at lw_m9 56 rfl) rfl
theorem q2080 : (Jvm.Cond.constantLong "FastPlaneModel" (234 : Nat) (1752135026 : Int64)) ∈ lw_all := lw_g (lw_at lw_m9 57 rfl) rfl
theorem q2081 : (Jvm.Cond.constantLong "FastPlaneModel" (236 : Nat) (495806932324 : Int64)) ∈ lw_all := lw_g (lw_at lw_m9 58 rfl) rfl
theorem q2082 : (Jvm.Cond.constantLong "FastPlaneModel" (238 : Nat) (27419012906970725 : Int64)) ∈ lw_all := lw_g (lw_at lw_m9 59 rfl) rfl
theorem q2083 : (Jvm.Cond.constantLong "FastPlaneModel" (240 : Nat) (495673374574 : Int64)) ∈ lw_all := lw_g (lw_at lw_m9 60 rfl) rfl
theorem q2084 : (Jvm.Cond.constantLong "FastPlaneModel" (242 : Nat) (122545758368371 : Int64)) ∈ lw_all := lw_g (lw_at lw_m9 61 rfl) rfl
theorem q2085 : (Jvm.Cond.constantLong "FastPlaneModel" (244 : Nat) (482955846501 : Int64)) ∈ lw_all := lw_g (lw_at lw_m9 62 rfl) rfl
theorem q2086 : (Jvm.Cond.methodLink "FastPlaneModel" (271 : Nat) ({ cls := "FastPlaneModel", name := "isDigit", desc := "(I)Z" } : Jvm.MethodName)) ∈ lw_all := lw_g (lw_at lw_m9 63 rfl) rfl
theorem q2087 : (Jvm.Cond.static ({ cls := "FastPlaneModel", name := "isDigit", desc := "(I)Z" } : Jvm.MethodName)) ∈ lw_all := lw_g (lw_at lw_m9 64 rfl) rfl
theorem q2088 : (Jvm.Cond.code ({ cls := "FastPlaneModel", name := "isDigit", desc := "(I)Z" } : Jvm.MethodName) prog_24_method_4_code (1 : Nat) (Option.some Jvm.ClassFile.FieldType.boolean)) ∈ lw_all := lw_g (lw_at lw_m9 65 rfl) rfl
theorem q2089 : (Jvm.Cond.methodLink "FastPlaneModel" (277 : Nat) ({ cls := "FastPlaneModel", name := "isSign", desc := "(I)Z" } : Jvm.MethodName)) ∈ lw_all := lw_g (lw_at lw_m9 66 rfl) rfl
theorem q2090 : (Jvm.Cond.static ({ cls := "FastPlaneModel", name := "isSign", desc := "(I)Z" } : Jvm.MethodName)) ∈ lw_all := lw_g (lw_at lw_m9 67 rfl) rfl
theorem q2091 : (Jvm.Cond.code ({ cls := "FastPlaneModel", name := "isSign", desc := "(I)Z" } : Jvm.MethodName) prog_24_method_8_code (1 : Nat) (Option.some Jvm.ClassFile.FieldType.boolean)) ∈ lw_all := lw_g (lw_at lw_m9 68 rfl) rfl
theorem q2092 : (Jvm.Cond.methodLink "FastPlaneModel" (284 : Nat) ({ cls := "FastPlaneModel", name := "isGood", desc := "()Z" } : Jvm.MethodName)) ∈ lw_all := lw_g (lw_at lw_m9 69 rfl) rfl
theorem q2093 : (Jvm.Cond.privateMethod ({ cls := "FastPlaneModel", name := "isGood", desc := "()Z" } : Jvm.MethodName)) ∈ lw_tbl := lw_at lw_m9 70 rfl
theorem u2093 : (Jvm.Cond.privateMethod ({ cls := "FastPlaneModel", name := "isGood", desc := "()Z" } : Jvm.MethodName)) ∈ lw_nw := List.mem_filter.mpr ⟨q2093, rfl⟩
theorem q2094 : (Jvm.Cond.instanceMethod ({ cls := "FastPlaneModel", name := "isGood", desc := "()Z" } : Jvm.MethodName)) ∈ lw_all := lw_g (lw_at lw_m9 71 rfl) rfl
theorem q2095 : (Jvm.Cond.code ({ cls := "FastPlaneModel", name := "isGood", desc := "()Z" } : Jvm.MethodName) prog_24_method_6_code (1 : Nat) (Option.some Jvm.ClassFile.FieldType.boolean)) ∈ lw_all := lw_g (lw_at lw_m9 72 rfl) rfl
theorem q2096 : (Jvm.Cond.methodLink "FastPlaneModel" (306 : Nat) ({ cls := "FastPlaneModel", name := "readMachine", desc := "()V" } : Jvm.MethodName)) ∈ lw_all := lw_g (lw_at lw_m9 73 rfl) rfl
theorem q2097 : (Jvm.Cond.privateMethod ({ cls := "FastPlaneModel", name := "readMachine", desc := "()V" } : Jvm.MethodName)) ∈ lw_tbl := lw_at lw_m9 74 rfl
theorem u2097 : (Jvm.Cond.privateMethod ({ cls := "FastPlaneModel", name := "readMachine", desc := "()V" } : Jvm.MethodName)) ∈ lw_nw := List.mem_filter.mpr ⟨q2097, rfl⟩
theorem q2098 : (Jvm.Cond.instanceMethod ({ cls := "FastPlaneModel", name := "readMachine", desc := "()V" } : Jvm.MethodName)) ∈ lw_all := lw_g (lw_at lw_m9 75 rfl) rfl
theorem q2099 : (Jvm.Cond.code ({ cls := "FastPlaneModel", name := "readMachine", desc := "()V" } : Jvm.MethodName) prog_24_method_18_code (5 : Nat) (Option.none : Option Jvm.ClassFile.FieldType)) ∈ lw_all := lw_g (lw_at lw_m9 76 rfl) rfl
theorem q2100 : (Jvm.Cond.methodLink "FastPlaneModel" (315 : Nat) ({ cls := "FastPlaneModel", name := "isWord", desc := "(J)Z" } : Jvm.MethodName)) ∈ lw_all := lw_g (lw_at lw_m9 77 rfl) rfl
theorem q2101 : (Jvm.Cond.privateMethod ({ cls := "FastPlaneModel", name := "isWord", desc := "(J)Z" } : Jvm.MethodName)) ∈ lw_tbl := lw_at lw_m9 78 rfl
theorem u2101 : (Jvm.Cond.privateMethod ({ cls := "FastPlaneModel", name := "isWord", desc := "(J)Z" } : Jvm.MethodName)) ∈ lw_nw := List.mem_filter.mpr ⟨q2101, rfl⟩
theorem q2102 : (Jvm.Cond.instanceMethod ({ cls := "FastPlaneModel", name := "isWord", desc := "(J)Z" } : Jvm.MethodName)) ∈ lw_all := lw_g (lw_at lw_m9 79 rfl) rfl
theorem q2103 : (Jvm.Cond.code ({ cls := "FastPlaneModel", name := "isWord", desc := "(J)Z" } : Jvm.MethodName) prog_24_method_11_code (3 : Nat) (Option.some Jvm.ClassFile.FieldType.boolean)) ∈ lw_all := lw_g (lw_at lw_m9 80 rfl) rfl
theorem q2104 : (Jvm.Cond.methodLink "FastPlaneModel" (318 : Nat) ({ cls := "FastPlaneModel", name := "isFull", desc := "()Z" } : Jvm.MethodName)) ∈ lw_all := lw_g (lw_at lw_m9 81 rfl) rfl
theorem q2105 : (Jvm.Cond.privateMethod ({ cls := "FastPlaneModel", name := "isFull", desc := "()Z" } : Jvm.MethodName)) ∈ lw_tbl := lw_at lw_m9 82 rfl
theorem u2105 : (Jvm.Cond.privateMethod ({ cls := "FastPlaneModel", name := "isFull", desc := "()Z" } : Jvm.MethodName)) ∈ lw_nw := List.mem_filter.mpr ⟨q2105, rfl⟩
theorem q2106 : (Jvm.Cond.instanceMethod ({ cls := "FastPlaneModel", name := "isFull", desc := "()Z" } : Jvm.MethodName)) ∈ lw_all := lw_g (lw_at lw_m9 83 rfl) rfl
theorem q2107 : (Jvm.Cond.code ({ cls := "FastPlaneModel", name := "isFull", desc := "()Z" } : Jvm.MethodName) prog_24_method_17_code (1 : Nat) (Option.some Jvm.ClassFile.FieldType.boolean)) ∈ lw_all := lw_g (lw_at lw_m9 84 rfl) rfl
theorem q2108 : (Jvm.Cond.methodLink "FastPlaneModel" (291 : Nat) ({ cls := "FastPlaneModel", name := "wrong", desc := "()V" } : Jvm.MethodName)) ∈ lw_all := lw_g (lw_at lw_m9 85 rfl) rfl
theorem q2109 : (Jvm.Cond.privateMethod ({ cls := "FastPlaneModel", name := "wrong", desc := "()V" } : Jvm.MethodName)) ∈ lw_tbl := lw_at lw_m9 86 rfl
theorem u2109 : (Jvm.Cond.privateMethod ({ cls := "FastPlaneModel", name := "wrong", desc := "()V" } : Jvm.MethodName)) ∈ lw_nw := List.mem_filter.mpr ⟨q2109, rfl⟩
theorem q2110 : (Jvm.Cond.instanceMethod ({ cls := "FastPlaneModel", name := "wrong", desc := "()V" } : Jvm.MethodName)) ∈ lw_all := lw_g (lw_at lw_m9 87 rfl) rfl
theorem q2111 : (Jvm.Cond.code ({ cls := "FastPlaneModel", name := "wrong", desc := "()V" } : Jvm.MethodName) prog_24_method_12_code (1 : Nat) (Option.none : Option Jvm.ClassFile.FieldType)) ∈ lw_all := lw_g (lw_at lw_m9 88 rfl) rfl
theorem q2112 : (Jvm.Cond.methodLink "FastPlaneModel" (280 : Nat) ({ cls := "FastPlaneModel", name := "fails", desc := "(II)V" } : Jvm.MethodName)) ∈ lw_all := lw_g (lw_at lw_m9 89 rfl) rfl
theorem q2113 : (Jvm.Cond.privateMethod ({ cls := "FastPlaneModel", name := "fails", desc := "(II)V" } : Jvm.MethodName)) ∈ lw_tbl := lw_at lw_m9 90 rfl
theorem u2113 : (Jvm.Cond.privateMethod ({ cls := "FastPlaneModel", name := "fails", desc := "(II)V" } : Jvm.MethodName)) ∈ lw_nw := List.mem_filter.mpr ⟨q2113, rfl⟩
theorem q2114 : (Jvm.Cond.instanceMethod ({ cls := "FastPlaneModel", name := "fails", desc := "(II)V" } : Jvm.MethodName)) ∈ lw_all := lw_g (lw_at lw_m9 91 rfl) rfl
theorem q2115 : (Jvm.Cond.code ({ cls := "FastPlaneModel", name := "fails", desc := "(II)V" } : Jvm.MethodName) prog_24_method_5_code (3 : Nat) (Option.none : Option Jvm.ClassFile.FieldType)) ∈ lw_all := lw_g (lw_at lw_m9 92 rfl) rfl
theorem q2116 : (Jvm.Cond.methodLink "FastPlaneModel" (321 : Nat) ({ cls := "FastPlaneModel", name := "readPart", desc := "()V" } : Jvm.MethodName)) ∈ lw_all := lw_g (lw_at lw_m9 93 rfl) rfl
theorem q2117 : (Jvm.Cond.privateMethod ({ cls := "FastPlaneModel", name := "readPart", desc := "()V" } : Jvm.MethodName)) ∈ lw_tbl := lw_at lw_m9 94 rfl
theorem u2117 : (Jvm.Cond.privateMethod ({ cls := "FastPlaneModel", name := "readPart", desc := "()V" } : Jvm.MethodName)) ∈ lw_nw := List.mem_filter.mpr ⟨q2117, rfl⟩
theorem q2118 : (Jvm.Cond.instanceMethod ({ cls := "FastPlaneModel", name := "readPart", desc := "()V" } : Jvm.MethodName)) ∈ lw_all := lw_g (lw_at lw_m9 95 rfl) rfl
theorem q2119 : (Jvm.Cond.code ({ cls := "FastPlaneModel", name := "readPart", desc := "()V" } : Jvm.MethodName) prog_24_method_19_code (4 : Nat) (Option.none : Option Jvm.ClassFile.FieldType)) ∈ lw_all := lw_g (lw_at lw_m9 96 rfl) rfl
theorem q2120 : (Jvm.Cond.methodLink "FastPlaneModel" (339 : Nat) ({ cls := "FastPlaneModel", name := "must", desc := "(Z)V" } : Jvm.MethodName)) ∈ lw_all := lw_g (lw_at lw_m9 97 rfl) rfl
theorem q2121 : (Jvm.Cond.privateMethod ({ cls := "FastPlaneModel", name := "must", desc := "(Z)V" } : Jvm.MethodName)) ∈ lw_tbl := lw_at lw_m9 98 rfl
theorem u2121 : (Jvm.Cond.privateMethod ({ cls := "FastPlaneModel", name := "must", desc := "(Z)V" } : Jvm.MethodName)) ∈ lw_nw := List.mem_filter.mpr ⟨q2121, rfl⟩
theorem q2122 : (Jvm.Cond.instanceMethod ({ cls := "FastPlaneModel", name := "must", desc := "(Z)V" } : Jvm.MethodName)) ∈ lw_all := lw_g (lw_at lw_m9 99 rfl) rfl
theorem q2123 : (Jvm.Cond.code ({ cls := "FastPlaneModel", name := "must", desc := "(Z)V" } : Jvm.MethodName) prog_24_method_13_code (2 : Nat) (Option.none : Option Jvm.ClassFile.FieldType)) ∈ lw_all := lw_g (lw_at lw_m9 100 rfl) rfl
theorem q2124 : (Jvm.Cond.methodLink "FastPlaneModel" (343 : Nat) ({ cls := "FastPlaneModel", name := "numeral", desc := "(II)I" } : Jvm.MethodName)) ∈ lw_all := lw_g (lw_at lw_m9 101 rfl) rfl
theorem q2125 : (Jvm.Cond.privateMethod ({ cls := "FastPlaneModel", name := "numeral", desc := "(II)I" } : Jvm.MethodName)) ∈ lw_tbl := lw_at lw_m9 102 rfl
theorem u2125 : (Jvm.Cond.privateMethod ({ cls := "FastPlaneModel", name := "numeral", desc := "(II)I" } : Jvm.MethodName)) ∈ lw_nw := List.mem_filter.mpr ⟨q2125, rfl⟩
theorem q2126 : (Jvm.Cond.instanceMethod ({ cls := "FastPlaneModel", name := "numeral", desc := "(II)I" } : Jvm.MethodName)) ∈ lw_all := lw_g (lw_at lw_m9 103 rfl) rfl
theorem q2127 : (Jvm.Cond.code ({ cls := "FastPlaneModel", name := "numeral", desc := "(II)I" } : Jvm.MethodName) prog_24_method_14_code (4 : Nat) (Option.some Jvm.ClassFile.FieldType.int)) ∈ lw_all := lw_g (lw_at lw_m9 104 rfl) rfl
theorem q2128 : (Jvm.Cond.methodLink "FastPlaneModel" (324 : Nat) ({ cls := "FastPlaneModel", name := "readJoin", desc := "()V" } : Jvm.MethodName)) ∈ lw_all := lw_g (lw_at lw_m9 105 rfl) rfl
theorem q2129 : (Jvm.Cond.privateMethod ({ cls := "FastPlaneModel", name := "readJoin", desc := "()V" } : Jvm.MethodName)) ∈ lw_tbl := lw_at lw_m9 106 rfl
theorem u2129 : (Jvm.Cond.privateMethod ({ cls := "FastPlaneModel", name := "readJoin", desc := "()V" } : Jvm.MethodName)) ∈ lw_nw := List.mem_filter.mpr ⟨q2129, rfl⟩
theorem q2130 : (Jvm.Cond.instanceMethod ({ cls := "FastPlaneModel", name := "readJoin", desc := "()V" } : Jvm.MethodName)) ∈ lw_all := lw_g (lw_at lw_m9 107 rfl) rfl
theorem q2131 : (Jvm.Cond.code ({ cls := "FastPlaneModel", name := "readJoin", desc := "()V" } : Jvm.MethodName) prog_24_method_21_code (2 : Nat) (Option.none : Option Jvm.ClassFile.FieldType)) ∈ lw_all := lw_g (lw_at lw_m9 108 rfl) rfl
theorem q2132 : (Jvm.Cond.methodLink "FastPlaneModel" (347 : Nat) ({ cls := "FastPlaneModel", name := "partNamed", desc := "(I)I" } : Jvm.MethodName)) ∈ lw_all := lw_g (lw_at lw_m9 109 rfl) rfl
theorem q2133 : (Jvm.Cond.privateMethod ({ cls := "FastPlaneModel", name := "partNamed", desc := "(I)I" } : Jvm.MethodName)) ∈ lw_tbl := lw_at lw_m9 110 rfl
theorem u2133 : (Jvm.Cond.privateMethod ({ cls := "FastPlaneModel", name := "partNamed", desc := "(I)I" } : Jvm.MethodName)) ∈ lw_nw := List.mem_filter.mpr ⟨q2133, rfl⟩
theorem q2134 : (Jvm.Cond.instanceMethod ({ cls := "FastPlaneModel", name := "partNamed", desc := "(I)I" } : Jvm.MethodName)) ∈ lw_all := lw_g (lw_at lw_m9 111 rfl) rfl
theorem q2135 : (Jvm.Cond.code ({ cls := "FastPlaneModel", name := "partNamed", desc := "(I)I" } : Jvm.MethodName) prog_24_method_20_code (4 : Nat) (Option.some Jvm.ClassFile.FieldType.int)) ∈ lw_all := lw_g (lw_at lw_m9 112 rfl) rfl
theorem q2136 : (Jvm.Cond.methodLink "FastPlaneModel" (327 : Nat) ({ cls := "FastPlaneModel", name := "readMoves", desc := "()V" } : Jvm.MethodName)) ∈ lw_all := lw_g (lw_at lw_m9 113 rfl) rfl
theorem q2137 : (Jvm.Cond.privateMethod ({ cls := "FastPlaneModel", name := "readMoves", desc := "()V" } : Jvm.MethodName)) ∈ lw_tbl := lw_at lw_m9 114 rfl
theorem u2137 : (Jvm.Cond.privateMethod ({ cls := "FastPlaneModel", name := "readMoves", desc := "()V" } : Jvm.MethodName)) ∈ lw_nw := List.mem_filter.mpr ⟨q2137, rfl⟩
theorem q2138 : (Jvm.Cond.instanceMethod ({ cls := "FastPlaneModel", name := "readMoves", desc := "()V" } : Jvm.MethodName)) ∈ lw_all := lw_g (lw_at lw_m9 115 rfl) rfl
theorem q2139 : (Jvm.Cond.code ({ cls := "FastPlaneModel", name := "readMoves", desc := "()V" } : Jvm.MethodName) prog_24_method_22_code (2 : Nat) (Option.none : Option Jvm.ClassFile.FieldType)) ∈ lw_all := lw_g (lw_at lw_m9 116 rfl) rfl
theorem q2140 : (Jvm.Cond.methodLink "FastPlaneModel" (330 : Nat) ({ cls := "FastPlaneModel", name := "readTank", desc := "()V" } : Jvm.MethodName)) ∈ lw_all := lw_g (lw_at lw_m9 117 rfl) rfl
theorem q2141 : (Jvm.Cond.privateMethod ({ cls := "FastPlaneModel", name := "readTank", desc := "()V" } : Jvm.MethodName)) ∈ lw_tbl := lw_at lw_m9 118 rfl
theorem u2141 : (Jvm.Cond.privateMethod ({ cls := "FastPlaneModel", name := "readTank", desc := "()V" } : Jvm.MethodName)) ∈ lw_nw := List.mem_filter.mpr ⟨q2141, rfl⟩
theorem q2142 : (Jvm.Cond.instanceMethod ({ cls := "FastPlaneModel", name := "readTank", desc := "()V" } : Jvm.MethodName)) ∈ lw_all := lw_g (lw_at lw_m9 119 rfl) rfl
theorem q2143 : (Jvm.Cond.code ({ cls := "FastPlaneModel", name := "readTank", desc := "()V" } : Jvm.MethodName) prog_24_method_23_code (2 : Nat) (Option.none : Option Jvm.ClassFile.FieldType)) ∈ lw_all := lw_g (lw_at lw_m9 120 rfl) rfl
theorem q2144 : (Jvm.Cond.methodLink "FastPlaneModel" (333 : Nat) ({ cls := "FastPlaneModel", name := "readRow", desc := "()V" } : Jvm.MethodName)) ∈ lw_all := lw_g (lw_at lw_m9 121 rfl) rfl
theorem q2145 : (Jvm.Cond.privateMethod ({ cls := "FastPlaneModel", name := "readRow", desc := "()V" } : Jvm.MethodName)) ∈ lw_tbl := lw_at lw_m9 122 rfl
theorem u2145 : (Jvm.Cond.privateMethod ({ cls := "FastPlaneModel", name := "readRow", desc := "()V" } : Jvm.MethodName)) ∈ lw_nw := List.mem_filter.mpr ⟨q2145, rfl⟩
theorem q2146 : (Jvm.Cond.instanceMethod ({ cls := "FastPlaneModel", name := "readRow", desc := "()V" } : Jvm.MethodName)) ∈ lw_all := lw_g (lw_at lw_m9 123 rfl) rfl
theorem q2147 : (Jvm.Cond.code ({ cls := "FastPlaneModel", name := "readRow", desc := "()V" } : Jvm.MethodName) prog_24_method_24_code (4 : Nat) (Option.none : Option Jvm.ClassFile.FieldType)) ∈ lw_all := lw_g (lw_at lw_m9 124 rfl) rfl
theorem q2148 : (Jvm.Cond.methodLink "FastPlaneModel" (336 : Nat) ({ cls := "FastPlaneModel", name := "is", desc := "(I)Z" } : Jvm.MethodName)) ∈ lw_all := lw_g (lw_at lw_m9 125 rfl) rfl
theorem q2149 : (Jvm.Cond.privateMethod ({ cls := "FastPlaneModel", name := "is", desc := "(I)Z" } : Jvm.MethodName)) ∈ lw_tbl := lw_at lw_m9 126 rfl
theorem u2149 : (Jvm.Cond.privateMethod ({ cls := "FastPlaneModel", name := "is", desc := "(I)Z" } : Jvm.MethodName)) ∈ lw_nw := List.mem_filter.mpr ⟨q2149, rfl⟩
theorem q2150 : (Jvm.Cond.instanceMethod ({ cls := "FastPlaneModel", name := "is", desc := "(I)Z" } : Jvm.MethodName)) ∈ lw_all := lw_g (lw_at lw_m9 127 rfl) rfl
theorem q2151 : (Jvm.Cond.code ({ cls := "FastPlaneModel", name := "is", desc := "(I)Z" } : Jvm.MethodName) prog_24_method_10_code (2 : Nat) (Option.some Jvm.ClassFile.FieldType.boolean)) ∈ lw_all := lw_g (lw_at lw_m9 128 rfl) rfl
theorem q2152 : (Jvm.Cond.methodLink "FastPlaneLaw" (35 : Nat) ({ cls := "FastPlaneModel", name := "fault", desc := "(I)I" } : Jvm.MethodName)) ∈ lw_all := lw_g (lw_at lw_m9 129 rfl) rfl
theorem q2153 : (Jvm.Cond.instanceMethod ({ cls := "FastPlaneModel", name := "fault", desc := "(I)I" } : Jvm.MethodName)) ∈ lw_all := lw_g (lw_at lw_m9 130 rfl) rfl
theorem q2154 : (Jvm.Cond.selects "FastPlaneModel" ({ cls := "FastPlaneModel", name := "fault", desc := "(I)I" } : Jvm.MethodName) ({ cls := "FastPlaneModel", name := "fault", desc := "(I)I" } : Jvm.MethodName)) ∈ lw_all := lw_g (lw_at lw_m9 131 rfl) rfl
theorem q2155 : (Jvm.Cond.code ({ cls := "FastPlaneModel", name := "fault", desc := "(I)I" } : Jvm.MethodName) prog_24_method_25_code (2 : Nat) (Option.some Jvm.ClassFile.FieldType.int)) ∈ lw_all := lw_g (lw_at lw_m9 132 rfl) rfl
theorem q2156 : (Jvm.Cond.methodLink "FastPlaneLaw" (40 : Nat) ({ cls := "FastPlaneModel", name := "mm", desc := "(II)I" } : Jvm.MethodName)) ∈ lw_all := lw_g (lw_at lw_m9 133 rfl) rfl
theorem q2157 : (Jvm.Cond.instanceMethod ({ cls := "FastPlaneModel", name := "mm", desc := "(II)I" } : Jvm.MethodName)) ∈ lw_all := lw_g (lw_at lw_m9 134 rfl) rfl
theorem q2158 : (Jvm.Cond.selects "FastPlaneModel" ({ cls := "FastPlaneModel", name := "mm", desc := "(II)I" } : Jvm.MethodName) ({ cls := "FastPlaneModel", name := "mm", desc := "(II)I" } : Jvm.MethodName)) ∈ lw_all := lw_g (lw_at lw_m9 135 rfl) rfl
theorem q2159 : (Jvm.Cond.code ({ cls := "FastPlaneModel", name := "mm", desc := "(II)I" } : Jvm.MethodName) prog_24_method_31_code (3 : Nat) (Option.some Jvm.ClassFile.FieldType.int)) ∈ lw_all := lw_g (lw_at lw_m9 136 rfl) rfl
theorem q2160 : (Jvm.Cond.methodLink "FastPlaneModel" (360 : Nat) ({ cls := "FastPlaneModel", name := "isPart", desc := "(I)Z" } : Jvm.MethodName)) ∈ lw_all := lw_g (lw_at lw_m9 137 rfl) rfl
theorem q2161 : (Jvm.Cond.privateMethod ({ cls := "FastPlaneModel", name := "isPart", desc := "(I)Z" } : Jvm.MethodName)) ∈ lw_tbl := lw_at lw_m9 138 rfl
theorem u2161 : (Jvm.Cond.privateMethod ({ cls := "FastPlaneModel", name := "isPart", desc := "(I)Z" } : Jvm.MethodName)) ∈ lw_nw := List.mem_filter.mpr ⟨q2161, rfl⟩
theorem q2162 : (Jvm.Cond.instanceMethod ({ cls := "FastPlaneModel", name := "isPart", desc := "(I)Z" } : Jvm.MethodName)) ∈ lw_all := lw_g (lw_at lw_m9 139 rfl) rfl
theorem q2163 : (Jvm.Cond.code ({ cls := "FastPlaneModel", name := "isPart", desc := "(I)Z" } : Jvm.MethodName) prog_24_method_29_code (2 : Nat) (Option.some Jvm.ClassFile.FieldType.boolean)) ∈ lw_all := lw_g (lw_at lw_m9 140 rfl) rfl
theorem q2164 : (Jvm.Cond.methodLink "FastPlaneModel" (350 : Nat) ({ cls := "FastPlaneModel", name := "parts", desc := "()I" } : Jvm.MethodName)) ∈ lw_all := lw_g (lw_at lw_m9 141 rfl) rfl
theorem q2165 : (Jvm.Cond.privateMethod ({ cls := "FastPlaneModel", name := "parts", desc := "()I" } : Jvm.MethodName)) ∈ lw_tbl := lw_at lw_m9 142 rfl
theorem u2165 : (Jvm.Cond.privateMethod ({ cls := "FastPlaneModel", name := "parts", desc := "()I" } : Jvm.MethodName)) ∈ lw_nw := List.mem_filter.mpr ⟨q2165, rfl⟩
theorem q2166 : (Jvm.Cond.instanceMethod ({ cls := "FastPlaneModel", name := "parts", desc := "()I" } : Jvm.MethodName)) ∈ lw_all := lw_g (lw_at lw_m9 143 rfl) rfl
theorem q2167 : (Jvm.Cond.code ({ cls := "FastPlaneModel", name := "parts", desc := "()I" } : Jvm.MethodName) prog_24_method_26_code (1 : Nat) (Option.some Jvm.ClassFile.FieldType.int)) ∈ lw_all := lw_g (lw_at lw_m9 144 rfl) rfl
theorem q2168 : (Jvm.Cond.methodLink "FastPlaneModel" (354 : Nat) ({ cls := "FastPlaneModel", name := "isIn", desc := "(III)Z" } : Jvm.MethodName)) ∈ lw_all := lw_g (lw_at lw_m9 145 rfl) rfl
theorem q2169 : (Jvm.Cond.static ({ cls := "FastPlaneModel", name := "isIn", desc := "(III)Z" } : Jvm.MethodName)) ∈ lw_all := lw_g (lw_at lw_m9 146 rfl) rfl
theorem q2170 : (Jvm.Cond.code ({ cls := "FastPlaneModel", name := "isIn", desc := "(III)Z" } : Jvm.MethodName) prog_24_method_28_code (3 : Nat) (Option.some Jvm.ClassFile.FieldType.boolean)) ∈ lw_all := lw_g (lw_at lw_m9 147 rfl) rfl
theorem q2171 : (Jvm.Cond.methodLink "FastPlaneModel" (363 : Nat) ({ cls := "FastPlaneModel", name := "mmOf", desc := "(II)I" } : Jvm.MethodName)) ∈ lw_all := lw_g (lw_at lw_m9 148 rfl) rfl
theorem q2172 : (Jvm.Cond.privateMethod ({ cls := "FastPlaneModel", name := "mmOf", desc := "(II)I" } : Jvm.MethodName)) ∈ lw_tbl := lw_at lw_m9 149 rfl
theorem u2172 : (Jvm.Cond.privateMethod ({ cls := "FastPlaneModel", name := "mmOf", desc := "(II)I" } : Jvm.MethodName)) ∈ lw_nw := List.mem_filter.mpr ⟨q2172, rfl⟩
theorem q2173 : (Jvm.Cond.instanceMethod ({ cls := "FastPlaneModel", name := "mmOf", desc := "(II)I" } : Jvm.MethodName)) ∈ lw_all := lw_g (lw_at lw_m9 150 rfl) rfl
theorem q2174 : (Jvm.Cond.code ({ cls := "FastPlaneModel", name := "mmOf", desc := "(II)I" } : Jvm.MethodName) prog_24_method_30_code (5 : Nat) (Option.some Jvm.ClassFile.FieldType.int)) ∈ lw_all := lw_g (lw_at lw_m9 151 rfl) rfl
theorem q2175 : (Jvm.Cond.constantLong "FastPlaneModel" (358 : Nat) (100000 : Int64)) ∈ lw_all := lw_g (lw_at lw_m9 152 rfl) rfl
theorem q2176 : (Jvm.Cond.methodLink "FastPlaneLaw" (44 : Nat) ({ cls := "FastPlaneModel", name := "clash", desc := "(I)I" } : Jvm.MethodName)) ∈ lw_all := lw_g (lw_at lw_m9 153 rfl) rfl
theorem q2177 : (Jvm.Cond.instanceMethod ({ cls := "FastPlaneModel", name := "clash", desc := "(I)I" } : Jvm.MethodName)) ∈ lw_all := lw_g (lw_at lw_m9 154 rfl) rfl
theorem q2178 : (Jvm.Cond.selects "FastPlaneModel" ({ cls := "FastPlaneModel", name := "clash", desc := "(I)I" } : Jvm.MethodName) ({ cls := "FastPlaneModel", name := "clash", desc := "(I)I" } : Jvm.MethodName)) ∈ lw_all := lw_g (lw_at lw_m9 155 rfl) rfl
theorem q2179 : (Jvm.Cond.code ({ cls := "FastPlaneModel", name := "clash", desc := "(I)I" } : Jvm.MethodName) prog_24_method_34_code (4 : Nat) (Option.some Jvm.ClassFile.FieldType.int)) ∈ lw_all := lw_g (lw_at lw_m9 156 rfl) rfl
theorem q2180 : (Jvm.Cond.methodLink "FastPlaneModel" (369 : Nat) ({ cls := "FastPlaneModel", name := "joins", desc := "()I" } : Jvm.MethodName)) ∈ lw_all := lw_g (lw_at lw_m9 157 rfl) rfl
theorem q2181 : (Jvm.Cond.privateMethod ({ cls := "FastPlaneModel", name := "joins", desc := "()I" } : Jvm.MethodName)) ∈ lw_tbl := lw_at lw_m9 158 rfl
theorem u2181 : (Jvm.Cond.privateMethod ({ cls := "FastPlaneModel", name := "joins", desc := "()I" } : Jvm.MethodName)) ∈ lw_nw := List.mem_filter.mpr ⟨q2181, rfl⟩
theorem q2182 : (Jvm.Cond.instanceMethod ({ cls := "FastPlaneModel", name := "joins", desc := "()I" } : Jvm.MethodName)) ∈ lw_all := lw_g (lw_at lw_m9 159 rfl) rfl
theorem q2183 : (Jvm.Cond.code ({ cls := "FastPlaneModel", name := "joins", desc := "()I" } : Jvm.MethodName) prog_24_method_27_code (1 : Nat) (Option.some Jvm.ClassFile.FieldType.int)) ∈ lw_all := lw_g (lw_at lw_m9 160 rfl) rfl
theorem q2184 : (Jvm.Cond.methodLink "FastPlaneModel" (372 : Nat) ({ cls := "FastPlaneModel", name := "fits", desc := "(II)Z" } : Jvm.MethodName)) ∈ lw_all := lw_g (lw_at lw_m9 161 rfl) rfl
theorem q2185 : (Jvm.Cond.privateMethod ({ cls := "FastPlaneModel", name := "fits", desc := "(II)Z" } : Jvm.MethodName)) ∈ lw_tbl := lw_at lw_m9 162 rfl
theorem u2185 : (Jvm.Cond.privateMethod ({ cls := "FastPlaneModel", name := "fits", desc := "(II)Z" } : Jvm.MethodName)) ∈ lw_nw := List.mem_filter.mpr ⟨q2185, rfl⟩
theorem q2186 : (Jvm.Cond.instanceMethod ({ cls := "FastPlaneModel", name := "fits", desc := "(II)Z" } : Jvm.MethodName)) ∈ lw_all := lw_g (lw_at lw_m9 163 rfl) rfl
theorem q2187 : (Jvm.Cond.code ({ cls := "FastPlaneModel", name := "fits", desc := "(II)Z" } : Jvm.MethodName) prog_24_method_33_code (3 : Nat) (Option.some Jvm.ClassFile.FieldType.boolean)) ∈ lw_all := lw_g (lw_at lw_m9 164 rfl) rfl
theorem q2188 : (Jvm.Cond.methodLink "FastPlaneModel" (366 : Nat) ({ cls := "FastPlaneModel", name := "fitsBy", desc := "(III)Z" } : Jvm.MethodName)) ∈ lw_all := lw_g (lw_at lw_m9 165 rfl) rfl
theorem q2189 : (Jvm.Cond.privateMethod ({ cls := "FastPlaneModel", name := "fitsBy", desc := "(III)Z" } : Jvm.MethodName)) ∈ lw_tbl := lw_at lw_m9 166 rfl
theorem u2189 : (Jvm.Cond.privateMethod ({ cls := "FastPlaneModel", name := "fitsBy", desc := "(III)Z" } : Jvm.MethodName)) ∈ lw_nw := List.mem_filter.mpr ⟨q2189, rfl⟩
theorem q2190 : (Jvm.Cond.instanceMethod ({ cls := "FastPlaneModel", name := "fitsBy", desc := "(III)Z" } : Jvm.MethodName)) ∈ lw_all := lw_g (lw_at lw_m9 167 rfl) rfl
theorem q2191 : (Jvm.Cond.code ({ cls := "FastPlaneModel", name := "fitsBy", desc := "(III)Z" } : Jvm.MethodName) prog_24_method_32_code (4 : Nat) (Option.some Jvm.ClassFile.FieldType.boolean)) ∈ lw_all := lw_g (lw_at lw_m9 168 rfl) rfl
theorem q2192 : (Jvm.Cond.methodLink "FastPlaneLaw" (48 : Nat) ({ cls := "FastPlaneModel", name := "breaks", desc := "(I)I" } : Jvm.MethodName)) ∈ lw_all := lw_g (lw_at lw_m9 169 rfl) rfl
theorem q2193 : (Jvm.Cond.instanceMethod ({ cls := "FastPlaneModel", name := "breaks", desc := "(I)I" } : Jvm.MethodName)) ∈ lw_all := lw_g (lw_at lw_m9 170 rfl) rfl
theorem q2194 : (Jvm.Cond.selects "FastPlaneModel" ({ cls := "FastPlaneModel", name := "breaks", desc := "(I)I" } : Jvm.MethodName) ({ cls := "FastPlaneModel", name := "breaks", desc := "(I)I" } : Jvm.MethodName)) ∈ lw_all := lw_g (lw_at lw_m9 171 rfl) rfl
theorem q2195 : (Jvm.Cond.code ({ cls := "FastPlaneModel", name := "breaks", desc := "(I)I" } : Jvm.MethodName) prog_24_method_35_code (3 : Nat) (Option.some Jvm.ClassFile.FieldType.int)) ∈ lw_all := lw_g (lw_at lw_m9 172 rfl) rfl
theorem q2196 : (Jvm.Cond.methodLink "FastPlaneLaw" (52 : Nat) ({ cls := "FastPlaneModel", name := "mend", desc := "(I)I" } : Jvm.MethodName)) ∈ lw_all := lw_g (lw_at lw_m9 173 rfl) rfl
theorem q2197 : (Jvm.Cond.instanceMethod ({ cls := "FastPlaneModel", name := "mend", desc := "(I)I" } : Jvm.MethodName)) ∈ lw_all := lw_g (lw_at lw_m9 174 rfl) rfl
theorem q2198 : (Jvm.Cond.selects "FastPlaneModel" ({ cls := "FastPlaneModel", name := "mend", desc := "(I)I" } : Jvm.MethodName) ({ cls := "FastPlaneModel", name := "mend", desc := "(I)I" } : Jvm.MethodName)) ∈ lw_all := lw_g (lw_at lw_m9 175 rfl) rfl
theorem q2199 : (Jvm.Cond.code ({ cls := "FastPlaneModel", name := "mend", desc := "(I)I" } : Jvm.MethodName) prog_24_method_38_code (2 : Nat) (Option.some Jvm.ClassFile.FieldType.int)) ∈ lw_all := lw_g (lw_at lw_m9 176 rfl) rfl
theorem q2200 : (Jvm.Cond.methodLink "FastPlaneModel" (388 : Nat) ({ cls := "FastPlaneModel", name := "seekMend", desc := "()V" } : Jvm.MethodName)) ∈ lw_all := lw_g (lw_at lw_m9 177 rfl) rfl
theorem q2201 : (Jvm.Cond.privateMethod ({ cls := "FastPlaneModel", name := "seekMend", desc := "()V" } : Jvm.MethodName)) ∈ lw_tbl := lw_at lw_m9 178 rfl
theorem u2201 : (Jvm.Cond.privateMethod ({ cls := "FastPlaneModel", name := "seekMend", desc := "()V" } : Jvm.MethodName)) ∈ lw_nw := List.mem_filter.mpr ⟨q2201, rfl⟩
theorem q2202 : (Jvm.Cond.instanceMethod ({ cls := "FastPlaneModel", name := "seekMend", desc := "()V" } : Jvm.MethodName)) ∈ lw_all := lw_g (lw_at lw_m9 179 rfl) rfl
theorem q2203 : (Jvm.Cond.code ({ cls := "FastPlaneModel", name := "seekMend", desc := "()V" } : Jvm.MethodName) prog_24_method_37_code (7 : Nat) (Option.none : Option Jvm.ClassFile.FieldType)) ∈ lw_all := lw_g (lw_at lw_m9 180 rfl) rfl
theorem q2204 : (Jvm.Cond.methodLink "FastPlaneModel" (382 : Nat) ({ cls := "FastPlaneModel", name := "fitsWith", desc := "(II)I" } : Jvm.MethodName)) ∈ lw_all := lw_g (lw_at lw_m9 181 rfl) rfl
theorem q2205 : (Jvm.Cond.privateMethod ({ cls := "FastPlaneModel", name := "fitsWith", desc := "(II)I" } : Jvm.MethodName)) ∈ lw_tbl := lw_at lw_m9 182 rfl
theorem u2205 : (Jvm.Cond.privateMethod ({ cls := "FastPlaneModel", name := "fitsWith", desc := "(II)I" } : Jvm.MethodName)) ∈ lw_nw := List.mem_filter.mpr ⟨q2205, rfl⟩
theorem q2206 : (Jvm.Cond.instanceMethod ({ cls := "FastPlaneModel", name := "fitsWith", desc := "(II)I" } : Jvm.MethodName)) ∈ lw_all := lw_g (lw_at lw_m9 183 rfl) rfl
theorem q2207 : (Jvm.Cond.code ({ cls := "FastPlaneModel", name := "fitsWith", desc := "(II)I" } : Jvm.MethodName) prog_24_method_36_code (7 : Nat) (Option.some Jvm.ClassFile.FieldType.int)) ∈ lw_all := lw_g (lw_at lw_m9 184 rfl) rfl
theorem q2208 : (Jvm.Cond.methodLink "FastPlaneLaw" (31 : Nat) ({ cls := "FastPlaneModel", name := "treaty", desc := "(I)I" } : Jvm.MethodName)) ∈ lw_all := lw_g (lw_at lw_m9 185 rfl) rfl
theorem q2209 : (Jvm.Cond.instanceMethod ({ cls := "FastPlaneModel", name := "treaty", desc := "(I)I" } : Jvm.MethodName)) ∈ lw_all := lw_g (lw_at lw_m9 186 rfl) rfl
theorem q2210 : (Jvm.Cond.selects "FastPlaneModel" ({ cls := "FastPlaneModel", name := "treaty", desc := "(I)I" } : Jvm.MethodName) ({ cls := "FastPlaneModel", name := "treaty", desc := "(I)I" } : Jvm.MethodName)) ∈ lw_all := lw_g (lw_at lw_m9 187 rfl) rfl
theorem q2211 : (Jvm.Cond.code ({ cls := "FastPlaneModel", name := "treaty", desc := "(I)I" } : Jvm.MethodName) prog_24_method_40_code (3 : Nat) (Option.some Jvm.ClassFile.FieldType.int)) ∈ lw_all := lw_g (lw_at lw_m9 188 rfl) rfl
theorem q2212 : (Jvm.Cond.methodLink "FastPlaneModel" (391 : Nat) ({ cls := "FastPlaneModel", name := "isTongue", desc := "(I)Z" } : Jvm.MethodName)) ∈ lw_all := lw_g (lw_at lw_m9 189 rfl) rfl
theorem q2213 : (Jvm.Cond.static ({ cls := "FastPlaneModel", name := "isTongue", desc := "(I)Z" } : Jvm.MethodName)) ∈ lw_all := lw_g (lw_at lw_m9 190 rfl) rfl
theorem q2214 : (Jvm.Cond.code ({ cls := "FastPlaneModel", name := "isTongue", desc := "(I)Z" } : Jvm.MethodName) prog_24_method_39_code (1 : Nat) (Option.some Jvm.ClassFile.FieldType.boolean)) ∈ lw_all := lw_g (lw_at lw_m9 191 rfl) rfl
theorem q2215 : (Jvm.Cond.methodLink "FastPlaneModel" (400 : Nat) ({ cls := "FastPlaneModel", name := "readTreaty", desc := "()V" } : Jvm.MethodName)) ∈ lw_all := lw_g (lw_at lw_m9 192 rfl) rfl
theorem q2216 : (Jvm.Cond.privateMethod ({ cls := "FastPlaneModel", name := "readTreaty", desc := "()V" } : Jvm.MethodName)) ∈ lw_tbl := lw_at lw_m9 193 rfl
theorem u2216 : (Jvm.Cond.privateMethod ({ cls := "FastPlaneModel", name := "readTreaty", desc := "()V" } : Jvm.MethodName)) ∈ lw_nw := List.mem_filter.mpr ⟨q2216, rfl⟩
theorem q2217 : (Jvm.Cond.instanceMethod ({ cls := "FastPlaneModel", name := "readTreaty", desc := "()V" } : Jvm.MethodName)) ∈ lw_all := lw_g (lw_at lw_m9 194 rfl) rfl
theorem q2218 : (Jvm.Cond.code ({ cls := "FastPlaneModel", name := "readTreaty", desc := "()V" } : Jvm.MethodName) prog_24_method_41_code (2 : Nat) (Option.none : Option Jvm.ClassFile.FieldType)) ∈ lw_all := lw_g (lw_at lw_m9 195 rfl) rfl
theorem q2219 : (Jvm.Cond.methodLink "FastPlaneModel" (406 : Nat) ({ cls := "FastPlaneModel", name := "e", desc := "()V" } : Jvm.MethodName)) ∈ lw_all := lw_g (lw_at lw_m9 196 rfl) rfl
theorem q2220 : (Jvm.Cond.privateMethod ({ cls := "FastPlaneModel", name := "e", desc := "()V" } : Jvm.MethodName)) ∈ lw_tbl := lw_at lw_m9 197 rfl
theorem u2220 : (Jvm.Cond.privateMethod ({ cls := "FastPlaneModel", name := "e", desc := "()V" } : Jvm.MethodName)) ∈ lw_nw := List.mem_filter.mpr ⟨q2220, rfl⟩
theorem q2221 : (Jvm.Cond.instanceMethod ({ cls := "FastPlaneModel", name := "e", desc := "()V" } : Jvm.MethodName)) ∈ lw_all := lw_g (lw_at lw_m9 198 rfl) rfl
theorem q2222 : (Jvm.Cond.code ({ cls := "FastPlaneModel", name := "e", desc := "()V" } : Jvm.MethodName) prog_24_method_44_code (2 : Nat) (Option.none : Option Jvm.ClassFile.FieldType)) ∈ lw_all := lw_g (lw_at lw_m9 199 rfl) rfl
theorem q2223 : (Jvm.Cond.methodLink "FastPlaneModel" (415 : Nat) ({ cls := "FastPlaneModel", name := "put", desc := "(II)V" } : Jvm.MethodName)) ∈ lw_all := lw_g (lw_at lw_m9 200 rfl) rfl
theorem q2224 : (Jvm.Cond.privateMethod ({ cls := "FastPlaneModel", name := "put", desc := "(II)V" } : Jvm.MethodName)) ∈ lw_tbl := lw_at lw_m9 201 rfl
theorem u2224 : (Jvm.Cond.privateMethod ({ cls := "FastPlaneModel", name := "put", desc := "(II)V" } : Jvm.MethodName)) ∈ lw_nw := List.mem_filter.mpr ⟨q2224, rfl⟩
theorem q2225 : (Jvm.Cond.instanceMethod ({ cls := "FastPlaneModel", name := "put", desc := "(II)V" } : Jvm.MethodName)) ∈ lw_all := lw_g (lw_at lw_m9 202 rfl) rfl
theorem q2226 : (Jvm.Cond.code ({ cls := "FastPlaneModel", name := "put", desc := "(II)V" } : Jvm.MethodName) prog_24_method_43_code (3 : Nat) (Option.none : Option Jvm.ClassFile.FieldType)) ∈ lw_all := lw_g (lw_at lw_m9 203 rfl) rfl
theorem q2227 : (Jvm.Cond.methodLink "FastPlaneModel" (418 : Nat) ({ cls := "FastPlaneModel", name := "unit", desc := "()Z" } : Jvm.MethodName)) ∈ lw_all := lw_g (lw_at lw_m9 204 rfl) rfl
theorem q2228 : (Jvm.Cond.privateMethod ({ cls := "FastPlaneModel", name := "unit", desc := "()Z" } : Jvm.MethodName)) ∈ lw_tbl := lw_at lw_m9 205 rfl
theorem u2228 : (Jvm.Cond.privateMethod ({ cls := "FastPlaneModel", name := "unit", desc := "()Z" } : Jvm.MethodName)) ∈ lw_nw := List.mem_filter.mpr ⟨q2228, rfl⟩
theorem q2229 : (Jvm.Cond.instanceMethod ({ cls := "FastPlaneModel", name := "unit", desc := "()Z" } : Jvm.MethodName)) ∈ lw_all := lw_g (lw_at lw_m9 206 rfl) rfl
theorem q2230 : (Jvm.Cond.code ({ cls := "FastPlaneModel", name := "unit", desc := "()Z" } : Jvm.MethodName) prog_24_method_47_code (6 : Nat) (Option.some Jvm.ClassFile.FieldType.boolean)) ∈ lw_all := lw_g (lw_at lw_m9 207 rfl) rfl
theorem q2231 : (Jvm.Cond.methodLink "FastPlaneModel" (424 : Nat) ({ cls := "FastPlaneModel", name := "wordHere", desc := "()I" } : Jvm.MethodName)) ∈ lw_all := lw_g (lw_at lw_m9 208 rfl) rfl
theorem q2232 : (Jvm.Cond.privateMethod ({ cls := "FastPlaneModel", name := "wordHere", desc := "()I" } : Jvm.MethodName)) ∈ lw_tbl := lw_at lw_m9 209 rfl
theorem u2232 : (Jvm.Cond.privateMethod ({ cls := "FastPlaneModel", name := "wordHere", desc := "()I" } : Jvm.MethodName)) ∈ lw_nw := List.mem_filter.mpr ⟨q2232, rfl⟩
theorem q2233 : (Jvm.Cond.instanceMethod ({ cls := "FastPlaneModel", name := "wordHere", desc := "()I" } : Jvm.MethodName)) ∈ lw_all := lw_g (lw_at lw_m9 210 rfl) rfl
theorem q2234 : (Jvm.Cond.code ({ cls := "FastPlaneModel", name := "wordHere", desc := "()I" } : Jvm.MethodName) prog_24_method_45_code (1 : Nat) (Option.some Jvm.ClassFile.FieldType.int)) ∈ lw_all := lw_g (lw_at lw_m9 211 rfl) rfl
theorem q2235 : (Jvm.Cond.methodLink "FastPlaneModel" (427 : Nat) ({ cls := "FastPlaneModel", name := "mayAsk", desc := "(I)Z" } : Jvm.MethodName)) ∈ lw_all := lw_g (lw_at lw_m9 212 rfl) rfl
theorem q2236 : (Jvm.Cond.privateMethod ({ cls := "FastPlaneModel", name := "mayAsk", desc := "(I)Z" } : Jvm.MethodName)) ∈ lw_tbl := lw_at lw_m9 213 rfl
theorem u2236 : (Jvm.Cond.privateMethod ({ cls := "FastPlaneModel", name := "mayAsk", desc := "(I)Z" } : Jvm.MethodName)) ∈ lw_nw := List.mem_filter.mpr ⟨q2236, rfl⟩
theorem q2237 : (Jvm.Cond.instanceMethod ({ cls := "FastPlaneModel", name := "mayAsk", desc := "(I)Z" } : Jvm.MethodName)) ∈ lw_all := lw_g (lw_at lw_m9 214 rfl) rfl
theorem q2238 : (Jvm.Cond.code ({ cls := "FastPlaneModel", name := "mayAsk", desc := "(I)Z" } : Jvm.MethodName) prog_24_method_46_code (2 : Nat) (Option.some Jvm.ClassFile.FieldType.boolean)) ∈ lw_all := lw_g (lw_at lw_m9 215 rfl) rfl
theorem q2239 : (Jvm.Cond.methodLink "FastPlaneModel" (430 : Nat) ({ cls := "FastPlaneModel", name := "step", desc := "(II)V" } : Jvm.MethodName)) ∈ lw_all := lw_g (lw_at lw_m9 216 rfl) rfl
theorem q2240 : (Jvm.Cond.privateMethod ({ cls := "FastPlaneModel", name := "step", desc := "(II)V" } : Jvm.MethodName)) ∈ lw_tbl := lw_at lw_m9 217 rfl
theorem u2240 : (Jvm.Cond.privateMethod ({ cls := "FastPlaneModel", name := "step", desc := "(II)V" } : Jvm.MethodName)) ∈ lw_nw := List.mem_filter.mpr ⟨q2240, rfl⟩
theorem q2241 : (Jvm.Cond.instanceMethod ({ cls := "FastPlaneModel", name := "step", desc := "(II)V" } : Jvm.MethodName)) ∈ lw_all := lw_g (lw_at lw_m9 218 rfl) rfl
theorem q2242 : (Jvm.Cond.code ({ cls := "FastPlaneModel", name := "step", desc := "(II)V" } : Jvm.MethodName) prog_24_method_42_code (3 : Nat) (Option.none : Option Jvm.ClassFile.FieldType)) ∈ lw_all := lw_g (lw_at lw_m9 219 rfl) rfl
theorem q2243 : (Jvm.Cond.methodLink "FastPlaneModel" (421 : Nat) ({ cls := "FastPlaneModel", name := "behind", desc := "()Z" } : Jvm.MethodName)) ∈ lw_all := lw_g (lw_at lw_m9 220 rfl) rfl
theorem q2244 : (Jvm.Cond.privateMethod ({ cls := "FastPlaneModel", name := "behind", desc := "()Z" } : Jvm.MethodName)) ∈ lw_tbl := lw_at lw_m9 221 rfl
theorem u2244 : (Jvm.Cond.privateMethod ({ cls := "FastPlaneModel", name := "behind", desc := "()Z" } : Jvm.MethodName)) ∈ lw_nw := List.mem_filter.mpr ⟨q2244, rfl⟩
theorem q2245 : (Jvm.Cond.instanceMethod ({ cls := "FastPlaneModel", name := "behind", desc := "()Z" } : Jvm.MethodName)) ∈ lw_all := lw_g (lw_at lw_m9 222 rfl) rfl
theorem q2246 : (Jvm.Cond.code ({ cls := "FastPlaneModel", name := "behind", desc := "()Z" } : Jvm.MethodName) prog_24_method_50_code (2 : Nat) (Option.some Jvm.ClassFile.FieldType.boolean)) ∈ lw_all := lw_g (lw_at lw_m9 223 rfl) rfl
theorem q2247 : (Jvm.Cond.methodLink "FastPlaneModel" (433 : Nat) ({ cls := "FastPlaneModel", name := "rankHere", desc := "()I" } : Jvm.MethodName)) ∈ lw_all := lw_g (lw_at lw_m9 224 rfl) rfl
theorem q2248 : (Jvm.Cond.privateMethod ({ cls := "FastPlaneModel", name := "rankHere", desc := "()I" } : Jvm.MethodName)) ∈ lw_tbl := lw_at lw_m9 225 rfl
theorem u2248 : (Jvm.Cond.privateMethod ({ cls := "FastPlaneModel", name := "rankHere", desc := "()I" } : Jvm.MethodName)) ∈ lw_nw := List.mem_filter.mpr ⟨q2248, rfl⟩
theorem q2249 : (Jvm.Cond.instanceMethod ({ cls := "FastPlaneModel", name := "rankHere", desc := "()I" } : Jvm.MethodName)) ∈ lw_all := lw_g (lw_at lw_m9 226 rfl) rfl
theorem q2250 : (Jvm.Cond.code ({ cls := "FastPlaneModel", name := "rankHere", desc := "()I" } : Jvm.MethodName) prog_24_method_48_code (1 : Nat) (Option.some Jvm.ClassFile.FieldType.int)) ∈ lw_all := lw_g (lw_at lw_m9 227 rfl) rfl
theorem q2251 : (Jvm.Cond.methodLink "FastPlaneModel" (436 : Nat) ({ cls := "FastPlaneModel", name := "isCompared", desc := "()Z" } : Jvm.MethodName)) ∈ lw_all := lw_g (lw_at lw_m9 228 rfl) rfl
theorem q2252 : (Jvm.Cond.privateMethod ({ cls := "FastPlaneModel", name := "isCompared", desc := "()Z" } : Jvm.MethodName)) ∈ lw_tbl := lw_at lw_m9 229 rfl
theorem u2252 : (Jvm.Cond.privateMethod ({ cls := "FastPlaneModel", name := "isCompared", desc := "()Z" } : Jvm.MethodName)) ∈ lw_nw := List.mem_filter.mpr ⟨q2252, rfl⟩
theorem q2253 : (Jvm.Cond.instanceMethod ({ cls := "FastPlaneModel", name := "isCompared", desc := "()Z" } : Jvm.MethodName)) ∈ lw_all := lw_g (lw_at lw_m9 230 rfl) rfl
theorem q2254 : (Jvm.Cond.code ({ cls := "FastPlaneModel", name := "isCompared", desc := "()Z" } : Jvm.MethodName) prog_24_method_49_code (2 : Nat) (Option.some Jvm.ClassFile.FieldType.boolean)) ∈ lw_all := lw_g (lw_at lw_m9 231 rfl) rfl
theorem q2255 : (Jvm.Cond.methodLink "FastPlaneLaw" (57 : Nat) ({ cls := "FastPlaneModel", name := "unlike", desc := "(IIZ)I" } : Jvm.MethodName)) ∈ lw_all := lw_g (lw_at lw_m9 232 rfl) rfl
theorem q2256 : (Jvm.Cond.instanceMethod ({ cls := "FastPlaneModel", name := "unlike", desc := "(IIZ)I" } : Jvm.MethodName)) ∈ lw_all := lw_g (lw_at lw_m9 233 rfl) rfl
theorem q2257 : (Jvm.Cond.selects "FastPlaneModel" ({ cls := "FastPlaneModel", name := "unlike", desc := "(IIZ)I" } : Jvm.MethodName) ({ cls := "FastPlaneModel", name := "unlike", desc := "(IIZ)I" } : Jvm.MethodName)) ∈ lw_all := lw_g (lw_at lw_m9 234 rfl) rfl
theorem q2258 : (Jvm.Cond.code ({ cls := "FastPlaneModel", name := "unlike", desc := "(IIZ)I" } : Jvm.MethodName) prog_24_method_57_code (6 : Nat) (Option.some Jvm.ClassFile.FieldType.int)) ∈ lw_all := lw_g (lw_at lw_m9 235 rfl) rfl
theorem q2259 : (Jvm.Cond.methodLink "FastPlaneModel" (486 : Nat) ({ cls := "FastPlaneModel", name := "unlikeToFly", desc := "(II)I" } : Jvm.MethodName)) ∈ lw_all := lw_g (lw_at lw_m9 236 rfl) rfl
theorem q2260 : (Jvm.Cond.privateMethod ({ cls := "FastPlaneModel", name := "unlikeToFly", desc := "(II)I" } : Jvm.MethodName)) ∈ lw_tbl := lw_at lw_m9 237 rfl
theorem u2260 : (Jvm.Cond.privateMethod ({ cls := "FastPlaneModel", name := "unlikeToFly", desc := "(II)I" } : Jvm.MethodName)) ∈ lw_nw := List.mem_filter.mpr ⟨q2260, rfl⟩
theorem q2261 : (Jvm.Cond.instanceMethod ({ cls := "FastPlaneModel", name := "unlikeToFly", desc := "(II)I" } : Jvm.MethodName)) ∈ lw_all := lw_g (lw_at lw_m9 238 rfl) rfl
theorem q2262 : (Jvm.Cond.code ({ cls := "FastPlaneModel", name := "unlikeToFly", desc := "(II)I" } : Jvm.MethodName) prog_24_method_56_code (6 : Nat) (Option.some Jvm.ClassFile.FieldType.int)) ∈ lw_all := lw_g (lw_at lw_m9 239 rfl) rfl
theorem q2263 : (Jvm.Cond.methodLink "FastPlaneModel" (482 : Nat) ({ cls := "FastPlaneModel", name := "flies", desc := "(IIII)Z" } : Jvm.MethodName)) ∈ lw_all := lw_g (lw_at lw_m10 0 rfl) rfl
theorem q2264 : (Jvm.Cond.privateMethod ({ cls := "FastPlaneModel", name := "flies", desc := "(IIII)Z" } : Jvm.MethodName)) ∈ lw_tbl := lw_at lw_m10 1 rfl
theorem u2264 : (Jvm.Cond.privateMethod ({ cls := "FastPlaneModel", name := "flies", desc := "(IIII)Z" } : Jvm.MethodName)) ∈ lw_nw := List.mem_filter.mpr ⟨q2264, rfl⟩
theorem q2265 : (Jvm.Cond.instanceMethod ({ cls := "FastPlaneModel", name := "flies", desc := "(IIII)Z" } : Jvm.MethodName)) ∈ lw_all := lw_g (lw_at lw_m10 2 rfl) rfl
theorem q2266 : (Jvm.Cond.code ({ cls := "FastPlaneModel", name := "flies", desc := "(IIII)Z" } : Jvm.MethodName) prog_24_method_55_code (5 : Nat) (Option.some Jvm.ClassFile.FieldType.boolean)) ∈ lw_all := lw_g (lw_at lw_m10 3 rfl) rfl
theorem q2267 : (Jvm.Cond.methodLink "FastPlaneModel" (479 : Nat) ({ cls := "FastPlaneModel", name := "work", desc := "(III)I" } : Jvm.MethodName)) ∈ lw_all := lw_g (lw_at lw_m10 4 rfl) rfl
theorem q2268 : (Jvm.Cond.privateMethod ({ cls := "FastPlaneModel", name := "work", desc := "(III)I" } : Jvm.MethodName)) ∈ lw_tbl := lw_at lw_m10 5 rfl
theorem u2268 : (Jvm.Cond.privateMethod ({ cls := "FastPlaneModel", name := "work", desc := "(III)I" } : Jvm.MethodName)) ∈ lw_nw := List.mem_filter.mpr ⟨q2268, rfl⟩
theorem q2269 : (Jvm.Cond.instanceMethod ({ cls := "FastPlaneModel", name := "work", desc := "(III)I" } : Jvm.MethodName)) ∈ lw_all := lw_g (lw_at lw_m10 6 rfl) rfl
theorem q2270 : (Jvm.Cond.code ({ cls := "FastPlaneModel", name := "work", desc := "(III)I" } : Jvm.MethodName) prog_24_method_53_code (7 : Nat) (Option.some Jvm.ClassFile.FieldType.int)) ∈ lw_all := lw_g (lw_at lw_m10 7 rfl) rfl
theorem q2271 : (Jvm.Cond.methodLink "FastPlaneModel" (472 : Nat) ({ cls := "FastPlaneModel", name := "term", desc := "(II)I" } : Jvm.MethodName)) ∈ lw_all := lw_g (lw_at lw_m10 8 rfl) rfl
theorem q2272 : (Jvm.Cond.privateMethod ({ cls := "FastPlaneModel", name := "term", desc := "(II)I" } : Jvm.MethodName)) ∈ lw_tbl := lw_at lw_m10 9 rfl
theorem u2272 : (Jvm.Cond.privateMethod ({ cls := "FastPlaneModel", name := "term", desc := "(II)I" } : Jvm.MethodName)) ∈ lw_nw := List.mem_filter.mpr ⟨q2272, rfl⟩
theorem q2273 : (Jvm.Cond.instanceMethod ({ cls := "FastPlaneModel", name := "term", desc := "(II)I" } : Jvm.MethodName)) ∈ lw_all := lw_g (lw_at lw_m10 10 rfl) rfl
theorem q2274 : (Jvm.Cond.code ({ cls := "FastPlaneModel", name := "term", desc := "(II)I" } : Jvm.MethodName) prog_24_method_51_code (3 : Nat) (Option.some Jvm.ClassFile.FieldType.int)) ∈ lw_all := lw_g (lw_at lw_m10 11 rfl) rfl
theorem q2275 : (Jvm.Cond.methodLink "FastPlaneModel" (475 : Nat) ({ cls := "FastPlaneModel", name := "two", desc := "(III)I" } : Jvm.MethodName)) ∈ lw_all := lw_g (lw_at lw_m10 12 rfl) rfl
theorem q2276 : (Jvm.Cond.static ({ cls := "FastPlaneModel", name := "two", desc := "(III)I" } : Jvm.MethodName)) ∈ lw_all := lw_g (lw_at lw_m10 13 rfl) rfl
theorem q2277 : (Jvm.Cond.code ({ cls := "FastPlaneModel", name := "two", desc := "(III)I" } : Jvm.MethodName) prog_24_method_52_code (3 : Nat) (Option.some Jvm.ClassFile.FieldType.int)) ∈ lw_all := lw_g (lw_at lw_m10 14 rfl) rfl
theorem q2278 : (Jvm.Cond.methodLink "FastPlaneModel" (489 : Nat) ({ cls := "FastPlaneModel", name := "leavesBy", desc := "(III)Z" } : Jvm.MethodName)) ∈ lw_all := lw_g (lw_at lw_m10 15 rfl) rfl
theorem q2279 : (Jvm.Cond.privateMethod ({ cls := "FastPlaneModel", name := "leavesBy", desc := "(III)Z" } : Jvm.MethodName)) ∈ lw_tbl := lw_at lw_m10 16 rfl
theorem u2279 : (Jvm.Cond.privateMethod ({ cls := "FastPlaneModel", name := "leavesBy", desc := "(III)Z" } : Jvm.MethodName)) ∈ lw_nw := List.mem_filter.mpr ⟨q2279, rfl⟩
theorem q2280 : (Jvm.Cond.instanceMethod ({ cls := "FastPlaneModel", name := "leavesBy", desc := "(III)Z" } : Jvm.MethodName)) ∈ lw_all := lw_g (lw_at lw_m10 17 rfl) rfl
theorem q2281 : (Jvm.Cond.code ({ cls := "FastPlaneModel", name := "leavesBy", desc := "(III)Z" } : Jvm.MethodName) prog_24_method_54_code (4 : Nat) (Option.some Jvm.ClassFile.FieldType.boolean)) ∈ lw_all := lw_g (lw_at lw_m10 18 rfl) rfl
theorem q2282 : (Jvm.Cond.methodLink "FastPlaneLaw" (61 : Nat) ({ cls := "FastPlaneModel", name := "change", desc := "(II)I" } : Jvm.MethodName)) ∈ lw_all := lw_g (lw_at lw_m10 19 rfl) rfl
theorem q2283 : (Jvm.Cond.instanceMethod ({ cls := "FastPlaneModel", name := "change", desc := "(II)I" } : Jvm.MethodName)) ∈ lw_all := lw_g (lw_at lw_m10 20 rfl) rfl
theorem q2284 : (Jvm.Cond.selects "FastPlaneModel" ({ cls := "FastPlaneModel", name := "change", desc := "(II)I" } : Jvm.MethodName) ({ cls := "FastPlaneModel", name := "change", desc := "(II)I" } : Jvm.MethodName)) ∈ lw_all := lw_g (lw_at lw_m10 21 rfl) rfl
theorem q2285 : (Jvm.Cond.code ({ cls := "FastPlaneModel", name := "change", desc := "(II)I" } : Jvm.MethodName) prog_24_method_60_code (3 : Nat) (Option.some Jvm.ClassFile.FieldType.int)) ∈ lw_all := lw_g (lw_at lw_m10 22 rfl) rfl
theorem q2286 : (Jvm.Cond.methodLink "FastPlaneModel" (495 : Nat) ({ cls := "FastPlaneModel", name := "isMonth", desc := "(I)Z" } : Jvm.MethodName)) ∈ lw_all := lw_g (lw_at lw_m10 23 rfl) rfl
theorem q2287 : (Jvm.Cond.static ({ cls := "FastPlaneModel", name := "isMonth", desc := "(I)Z" } : Jvm.MethodName)) ∈ lw_all := lw_g (lw_at lw_m10 24 rfl) rfl
theorem q2288 : (Jvm.Cond.code ({ cls := "FastPlaneModel", name := "isMonth", desc := "(I)Z" } : Jvm.MethodName) prog_24_method_58_code (1 : Nat) (Option.some Jvm.ClassFile.FieldType.boolean)) ∈ lw_all := lw_g (lw_at lw_m10 25 rfl) rfl
theorem q2289 : (Jvm.Cond.methodLink "FastPlaneModel" (498 : Nat) ({ cls := "FastPlaneModel", name := "tell", desc := "(III)I" } : Jvm.MethodName)) ∈ lw_all := lw_g (lw_at lw_m10 26 rfl) rfl
theorem q2290 : (Jvm.Cond.privateMethod ({ cls := "FastPlaneModel", name := "tell", desc := "(III)I" } : Jvm.MethodName)) ∈ lw_tbl := lw_at lw_m10 27 rfl
theorem u2290 : (Jvm.Cond.privateMethod ({ cls := "FastPlaneModel", name := "tell", desc := "(III)I" } : Jvm.MethodName)) ∈ lw_nw := List.mem_filter.mpr ⟨q2290, rfl⟩
theorem q2291 : (Jvm.Cond.instanceMethod ({ cls := "FastPlaneModel", name := "tell", desc := "(III)I" } : Jvm.MethodName)) ∈ lw_all := lw_g (lw_at lw_m10 28 rfl) rfl
theorem q2292 : (Jvm.Cond.code ({ cls := "FastPlaneModel", name := "tell", desc := "(III)I" } : Jvm.MethodName) prog_24_method_59_code (4 : Nat) (Option.some Jvm.ClassFile.FieldType.int)) ∈ lw_all := lw_g (lw_at lw_m10 29 rfl) rfl
theorem q2293 : (Jvm.Cond.methodLink "FastPlaneLaw" (65 : Nat) ({ cls := "FastPlaneModel", name := "estimate", desc := "(II)I" } : Jvm.MethodName)) ∈ lw_all := lw_g (lw_at lw_m10 30 rfl) rfl
theorem q2294 : (Jvm.Cond.instanceMethod ({ cls := "FastPlaneModel", name := "estimate", desc := "(II)I" } : Jvm.MethodName)) ∈ lw_all := lw_g (lw_at lw_m10 31 rfl) rfl
theorem q2295 : (Jvm.Cond.selects "FastPlaneModel" ({ cls := "FastPlaneModel", name := "estimate", desc := "(II)I" } : Jvm.MethodName) ({ cls := "FastPlaneModel", name := "estimate", desc := "(II)I" } : Jvm.MethodName)) ∈ lw_all := lw_g (lw_at lw_m10 32 rfl) rfl
theorem q2296 : (Jvm.Cond.code ({ cls := "FastPlaneModel", name := "estimate", desc := "(II)I" } : Jvm.MethodName) prog_24_method_61_code (3 : Nat) (Option.some Jvm.ClassFile.FieldType.int)) ∈ lw_all := lw_g (lw_at lw_m10 33 rfl) rfl
theorem q2297 : (Jvm.Cond.constant "FastPlaneModel" (501 : Nat) (99999 : Int32)) ∈ lw_all := lw_g (lw_at lw_m10 34 rfl) rfl
theorem q2298 : (Jvm.Cond.methodLink "FastPlaneLaw" (69 : Nat) ({ cls := "FastPlaneModel", name := "show", desc := "(II)I" } : Jvm.MethodName)) ∈ lw_all := lw_g (lw_at lw_m10 35 rfl) rfl
theorem q2299 : (Jvm.Cond.instanceMethod ({ cls := "FastPlaneModel", name := "show", desc := "(II)I" } : Jvm.MethodName)) ∈ lw_all := lw_g (lw_at lw_m10 36 rfl) rfl
theorem q2300 : (Jvm.Cond.selects "FastPlaneModel" ({ cls := "FastPlaneModel", name := "show", desc := "(II)I" } : Jvm.MethodName) ({ cls := "FastPlaneModel", name := "show", desc := "(II)I" } : Jvm.MethodName)) ∈ lw_all := lw_g (lw_at lw_m10 37 rfl) rfl
theorem q2301 : (Jvm.Cond.code ({ cls := "FastPlaneModel", name := "show", desc := "(II)I" } : Jvm.MethodName) prog_24_method_62_code (3 : Nat) (Option.some Jvm.ClassFile.FieldType.int)) ∈ lw_all := lw_g (lw_at lw_m10 38 rfl) rfl
theorem q2302 : (Jvm.Cond.methodLink "FastPlaneLaw" (74 : Nat) ({ cls := "FastPlaneModel", name := "untell", desc := "(I)Z" } : Jvm.MethodName)) ∈ lw_all := lw_g (lw_at lw_m10 39 rfl) rfl
theorem q2303 : (Jvm.Cond.instanceMethod ({ cls := "FastPlaneModel", name := "untell", desc := "(I)Z" } : Jvm.MethodName)) ∈ lw_all := lw_g (lw_at lw_m10 40 rfl) rfl
theorem q2304 : (Jvm.Cond.selects "FastPlaneModel" ({ cls := "FastPlaneModel", name := "untell", desc := "(I)Z" } : Jvm.MethodName) ({ cls := "FastPlaneModel", name := "untell", desc := "(I)Z" } : Jvm.MethodName)) ∈ lw_all := lw_g (lw_at lw_m10 41 rfl) rfl
theorem q2305 : (Jvm.Cond.code ({ cls := "FastPlaneModel", name := "untell", desc := "(I)Z" } : Jvm.MethodName) prog_24_method_63_code (2 : Nat) (Option.some Jvm.ClassFile.FieldType.boolean)) ∈ lw_all := lw_g (lw_at lw_m10 42 rfl) rfl
theorem q2306 : (Jvm.Cond.methodLink "FastPlaneLaw" (78 : Nat) ({ cls := "FastPlaneModel", name := "later", desc := "(I)I" } : Jvm.MethodName)) ∈ lw_all := lw_g (lw_at lw_m10 43 rfl) rfl
theorem q2307 : (Jvm.Cond.instanceMethod ({ cls := "FastPlaneModel", name := "later", desc := "(I)I" } : Jvm.MethodName)) ∈ lw_all := lw_g (lw_at lw_m10 44 rfl) rfl
theorem q2308 : (Jvm.Cond.selects "FastPlaneModel" ({ cls := "FastPlaneModel", name := "later", desc := "(I)I" } : Jvm.MethodName) ({ cls := "FastPlaneModel", name := "later", desc := "(I)I" } : Jvm.MethodName)) ∈ lw_all := lw_g (lw_at lw_m10 45 rfl) rfl
theorem q2309 : (Jvm.Cond.code ({ cls := "FastPlaneModel", name := "later", desc := "(I)I" } : Jvm.MethodName) prog_24_method_64_code (2 : Nat) (Option.some Jvm.ClassFile.FieldType.int)) ∈ lw_all := lw_g (lw_at lw_m10 46 rfl) rfl
theorem q2310 : (Jvm.Cond.constant "FastPlaneModel" (502 : Nat) (100000 : Int32)) ∈ lw_all := lw_g (lw_at lw_m10 47 rfl) rfl
theorem q2311 : (Jvm.Cond.methodLink "FastPlaneLaw" (82 : Nat) ({ cls := "FastPlaneModel", name := "moves", desc := "(II)I" } : Jvm.MethodName)) ∈ lw_all := lw_g (lw_at lw_m10 48 rfl) rfl
theorem q2312 : (Jvm.Cond.instanceMethod ({ cls := "FastPlaneModel", name := "moves", desc := "(II)I" } : Jvm.MethodName)) ∈ lw_all := lw_g (lw_at lw_m10 49 rfl) rfl
theorem q2313 : (Jvm.Cond.selects "FastPlaneModel" ({ cls := "FastPlaneModel", name := "moves", desc := "(II)I" } : Jvm.MethodName) ({ cls := "FastPlaneModel", name := "moves", desc := "(II)I" } : Jvm.MethodName)) ∈ lw_all := lw_g (lw_at lw_m10 50 rfl) rfl
theorem q2314 : (Jvm.Cond.code ({ cls := "FastPlaneModel", name := "moves", desc := "(II)I" } : Jvm.MethodName) prog_24_method_67_code (3 : Nat) (Option.some Jvm.ClassFile.FieldType.int)) ∈ lw_all := lw_g (lw_at lw_m10 51 rfl) rfl
theorem q2315 : (Jvm.Cond.methodLink "FastPlaneModel" (507 : Nat) ({ cls := "FastPlaneModel", name := "findMoves", desc := "(I)V" } : Jvm.MethodName)) ∈ lw_all := lw_g (lw_at lw_m10 52 rfl) rfl
theorem q2316 : (Jvm.Cond.privateMethod ({ cls := "FastPlaneModel", name := "findMoves", desc := "(I)V" } : Jvm.MethodName)) ∈ lw_tbl := lw_at lw_m10 53 rfl
theorem u2316 : (Jvm.Cond.privateMethod ({ cls := "FastPlaneModel", name := "findMoves", desc := "(I)V" } : Jvm.MethodName)) ∈ lw_nw := List.mem_filter.mpr ⟨q2316, rfl⟩
theorem q2317 : (Jvm.Cond.instanceMethod ({ cls := "FastPlaneModel", name := "findMoves", desc := "(I)V" } : Jvm.MethodName)) ∈ lw_all := lw_g (lw_at lw_m10 54 rfl) rfl
theorem q2318 : (Jvm.Cond.code ({ cls := "FastPlaneModel", name := "findMoves", desc := "(I)V" } : Jvm.MethodName) prog_24_method_66_code (5 : Nat) (Option.none : Option Jvm.ClassFile.FieldType)) ∈ lw_all := lw_g (lw_at lw_m10 55 rfl) rfl
theorem q2319 : (Jvm.Cond.constant "FastPlaneModel" (503 : Nat) (1000000 : Int32)) ∈ lw_all := lw_g (lw_at lw_m10 56 rfl) rfl
theorem q2320 : (Jvm.Cond.methodLink "FastPlaneModel" (504 : Nat) ({ cls := "FastPlaneModel", name := "counts", desc := "(III)Z" } : Jvm.MethodName)) ∈ lw_all := lw_g (lw_at lw_m10 57 rfl) rfl
theorem q2321 : (Jvm.Cond.privateMethod ({ cls := "FastPlaneModel", name := "counts", desc := "(III)Z" } : Jvm.MethodName)) ∈ lw_tbl := lw_at lw_m10 58 rfl
theorem u2321 : (Jvm.Cond.privateMethod ({ cls := "FastPlaneModel", name := "counts", desc := "(III)Z" } : Jvm.MethodName)) ∈ lw_nw := List.mem_filter.mpr ⟨q2321, rfl⟩
theorem q2322 : (Jvm.Cond.instanceMethod ({ cls := "FastPlaneModel", name := "counts", desc := "(III)Z" } : Jvm.MethodName)) ∈ lw_all := lw_g (lw_at lw_m10 59 rfl) rfl
theorem q2323 : (Jvm.Cond.code ({ cls := "FastPlaneModel", name := "counts", desc := "(III)Z" } : Jvm.MethodName) prog_24_method_65_code (4 : Nat) (Option.some Jvm.ClassFile.FieldType.boolean)) ∈ lw_all := lw_g (lw_at lw_m10 60 rfl) rfl
theorem q2324 : (Jvm.Cond.methodLink "FastPlaneLaw" (86 : Nat) ({ cls := "FastPlaneModel", name := "cost", desc := "(II)I" } : Jvm.MethodName)) ∈ lw_all := lw_g (lw_at lw_m10 61 rfl) rfl
theorem q2325 : (Jvm.Cond.instanceMethod ({ cls := "FastPlaneModel", name := "cost", desc := "(II)I" } : Jvm.MethodName)) ∈ lw_all := lw_g (lw_at lw_m10 62 rfl) rfl
theorem q2326 : (Jvm.Cond.selects "FastPlaneModel" ({ cls := "FastPlaneModel", name := "cost", desc := "(II)I" } : Jvm.MethodName) ({ cls := "FastPlaneModel", name := "cost", desc := "(II)I" } : Jvm.MethodName)) ∈ lw_all := lw_g (lw_at lw_m10 63 rfl) rfl
theorem q2327 : (Jvm.Cond.code ({ cls := "FastPlaneModel", name := "cost", desc := "(II)I" } : Jvm.MethodName) prog_24_method_69_code (3 : Nat) (Option.some Jvm.ClassFile.FieldType.int)) ∈ lw_all := lw_g (lw_at lw_m10 64 rfl) rfl
theorem q2328 : (Jvm.Cond.methodLink "FastPlaneModel" (511 : Nat) ({ cls := "FastPlaneModel", name := "costsOf", desc := "(II)I" } : Jvm.MethodName)) ∈ lw_all := lw_g (lw_at lw_m10 65 rfl) rfl
theorem q2329 : (Jvm.Cond.privateMethod ({ cls := "FastPlaneModel", name := "costsOf", desc := "(II)I" } : Jvm.MethodName)) ∈ lw_tbl := lw_at lw_m10 66 rfl
theorem u2329 : (Jvm.Cond.privateMethod ({ cls := "FastPlaneModel", name := "costsOf", desc := "(II)I" } : Jvm.MethodName)) ∈ lw_nw := List.mem_filter.mpr ⟨q2329, rfl⟩
theorem q2330 : (Jvm.Cond.instanceMethod ({ cls := "FastPlaneModel", name := "costsOf", desc := "(II)I" } : Jvm.MethodName)) ∈ lw_all := lw_g (lw_at lw_m10 67 rfl) rfl
theorem q2331 : (Jvm.Cond.code ({ cls := "FastPlaneModel", name := "costsOf", desc := "(II)I" } : Jvm.MethodName) prog_24_method_68_code (5 : Nat) (Option.some Jvm.ClassFile.FieldType.int)) ∈ lw_all := lw_g (lw_at lw_m10 68 rfl) rfl
theorem q2332 : (Jvm.Cond.methodLink "FastPlaneLaw" (91 : Nat) ({ cls := "FastPlaneModel", name := "pays", desc := "(III)I" } : Jvm.MethodName)) ∈ lw_all := lw_g (lw_at lw_m10 69 rfl) rfl
theorem q2333 : (Jvm.Cond.instanceMethod ({ cls := "FastPlaneModel", name := "pays", desc := "(III)I" } : Jvm.MethodName)) ∈ lw_all := lw_g (lw_at lw_m10 70 rfl) rfl
theorem q2334 : (Jvm.Cond.selects "FastPlaneModel" ({ cls := "FastPlaneModel", name := "pays", desc := "(III)I" } : Jvm.MethodName) ({ cls := "FastPlaneModel", name := "pays", desc := "(III)I" } : Jvm.MethodName)) ∈ lw_all := lw_g (lw_at lw_m10 71 rfl) rfl
theorem q2335 : (Jvm.Cond.code ({ cls := "FastPlaneModel", name := "pays", desc := "(III)I" } : Jvm.MethodName) prog_24_method_70_code (8 : Nat) (Option.some Jvm.ClassFile.FieldType.int)) ∈ lw_all := lw_g (lw_at lw_m10 72 rfl) rfl
theorem q2336 : (Jvm.Cond.methodLink "FastPlaneLaw" (95 : Nat) ({ cls := "FastPlaneModel", name := "over", desc := "(II)I" } : Jvm.MethodName)) ∈ lw_all := lw_g (lw_at lw_m10 73 rfl) rfl
theorem q2337 : (Jvm.Cond.instanceMethod ({ cls := "FastPlaneModel", name := "over", desc := "(II)I" } : Jvm.MethodName)) ∈ lw_all := lw_g (lw_at lw_m10 74 rfl) rfl
theorem q2338 : (Jvm.Cond.selects "FastPlaneModel" ({ cls := "FastPlaneModel", name := "over", desc := "(II)I" } : Jvm.MethodName) ({ cls := "FastPlaneModel", name := "over", desc := "(II)I" } : Jvm.MethodName)) ∈ lw_all := lw_g (lw_at lw_m10 75 rfl) rfl
theorem q2339 : (Jvm.Cond.code ({ cls := "FastPlaneModel", name := "over", desc := "(II)I" } : Jvm.MethodName) prog_24_method_72_code (3 : Nat) (Option.some Jvm.ClassFile.FieldType.int)) ∈ lw_all := lw_g (lw_at lw_m10 76 rfl) rfl
theorem q2340 : (Jvm.Cond.methodLink "FastPlaneModel" (514 : Nat) ({ cls := "FastPlaneModel", name := "overOf", desc := "(II)I" } : Jvm.MethodName)) ∈ lw_all := lw_g (lw_at lw_m10 77 rfl) rfl
theorem q2341 : (Jvm.Cond.privateMethod ({ cls := "FastPlaneModel", name := "overOf", desc := "(II)I" } : Jvm.MethodName)) ∈ lw_tbl := lw_at lw_m10 78 rfl
theorem u2341 : (Jvm.Cond.privateMethod ({ cls := "FastPlaneModel", name := "overOf", desc := "(II)I" } : Jvm.MethodName)) ∈ lw_nw := List.mem_filter.mpr ⟨q2341, rfl⟩
theorem q2342 : (Jvm.Cond.instanceMethod ({ cls := "FastPlaneModel", name := "overOf", desc := "(II)I" } : Jvm.MethodName)) ∈ lw_all := lw_g (lw_at lw_m10 79 rfl) rfl
theorem q2343 : (Jvm.Cond.code ({ cls := "FastPlaneModel", name := "overOf", desc := "(II)I" } : Jvm.MethodName) prog_24_method_71_code (5 : Nat) (Option.some Jvm.ClassFile.FieldType.int)) ∈ lw_all := lw_g (lw_at lw_m10 80 rfl) rfl
theorem q2344 : (Jvm.Cond.methodLink "FastPlaneLaw" (99 : Nat) ({ cls := "FastPlaneModel", name := "leave", desc := "(III)I" } : Jvm.MethodName)) ∈ lw_all := lw_g (lw_at lw_m10 81 rfl) rfl
theorem q2345 : (Jvm.Cond.instanceMethod ({ cls := "FastPlaneModel", name := "leave", desc := "(III)I" } : Jvm.MethodName)) ∈ lw_all := lw_g (lw_at lw_m10 82 rfl) rfl
theorem q2346 : (Jvm.Cond.selects "FastPlaneModel" ({ cls := "FastPlaneModel", name := "leave", desc := "(III)I" } : Jvm.MethodName) ({ cls := "FastPlaneModel", name := "leave", desc := "(III)I" } : Jvm.MethodName)) ∈ lw_all := lw_g (lw_at lw_m10 83 rfl) rfl
theorem q2347 : (Jvm.Cond.code ({ cls := "FastPlaneModel", name := "leave", desc := "(III)I" } : Jvm.MethodName) prog_24_method_73_code (4 : Nat) (Option.some Jvm.ClassFile.FieldType.int)) ∈ lw_all := lw_g (lw_at lw_m10 84 rfl) rfl
theorem q2348 : (Jvm.Cond.methodLink "FastPlaneLaw" (103 : Nat) ({ cls := "FastPlaneModel", name := "bounds", desc := "(II)I" } : Jvm.MethodName)) ∈ lw_all := lw_g (lw_at lw_m10 85 rfl) rfl
theorem q2349 : (Jvm.Cond.instanceMethod ({ cls := "FastPlaneModel", name := "bounds", desc := "(II)I" } : Jvm.MethodName)) ∈ lw_all := lw_g (lw_at lw_m10 86 rfl) rfl
theorem q2350 : (Jvm.Cond.selects "FastPlaneModel" ({ cls := "FastPlaneModel", name := "bounds", desc := "(II)I" } : Jvm.MethodName) ({ cls := "FastPlaneModel", name := "bounds", desc := "(II)I" } : Jvm.MethodName)) ∈ lw_all := lw_g (lw_at lw_m10 87 rfl) rfl
theorem q2351 : (Jvm.Cond.code ({ cls := "FastPlaneModel", name := "bounds", desc := "(II)I" } : Jvm.MethodName) prog_24_method_74_code (3 : Nat) (Option.some Jvm.ClassFile.FieldType.int)) ∈ lw_all := lw_g (lw_at lw_m10 88 rfl) rfl
theorem q2352 : (Jvm.Cond.methodLink "FastPlaneLaw" (107 : Nat) ({ cls := "FastPlaneModel", name := "land", desc := "()I" } : Jvm.MethodName)) ∈ lw_all := lw_g (lw_at lw_m10 89 rfl) rfl
theorem q2353 : (Jvm.Cond.instanceMethod ({ cls := "FastPlaneModel", name := "land", desc := "()I" } : Jvm.MethodName)) ∈ lw_all := lw_g (lw_at lw_m10 90 rfl) rfl
theorem q2354 : (Jvm.Cond.selects "FastPlaneModel" ({ cls := "FastPlaneModel", name := "land", desc := "()I" } : Jvm.MethodName) ({ cls := "FastPlaneModel", name := "land", desc := "()I" } : Jvm.MethodName)) ∈ lw_all := lw_g (lw_at lw_m10 91 rfl) rfl
theorem q2355 : (Jvm.Cond.code ({ cls := "FastPlaneModel", name := "land", desc := "()I" } : Jvm.MethodName) prog_24_method_75_code (2 : Nat) (Option.some Jvm.ClassFile.FieldType.int)) ∈ lw_all := lw_g (lw_at lw_m10 92 rfl) rfl
theorem q2356 : (Jvm.Cond.methodLink "FastPlaneLaw" (111 : Nat) ({ cls := "FastPlaneModel", name := "pump", desc := "(I)Z" } : Jvm.MethodName)) ∈ lw_all := lw_g (lw_at lw_m10 93 rfl) rfl
theorem q2357 : (Jvm.Cond.instanceMethod ({ cls := "FastPlaneModel", name := "pump", desc := "(I)Z" } : Jvm.MethodName)) ∈ lw_all := lw_g (lw_at lw_m10 94 rfl) rfl
theorem q2358 : (Jvm.Cond.selects "FastPlaneModel" ({ cls := "FastPlaneModel", name := "pump", desc := "(I)Z" } : Jvm.MethodName) ({ cls := "FastPlaneModel", name := "pump", desc := "(I)Z" } : Jvm.MethodName)) ∈ lw_all := lw_g (lw_at lw_m10 95 rfl) rfl
theorem q2359 : (Jvm.Cond.code ({ cls := "FastPlaneModel", name := "pump", desc := "(I)Z" } : Jvm.MethodName) prog_24_method_76_code (2 : Nat) (Option.some Jvm.ClassFile.FieldType.boolean)) ∈ lw_all := lw_g (lw_at lw_m10 96 rfl) rfl
theorem q2360 : (Jvm.Cond.methodLink "FastPlaneLaw" (115 : Nat) ({ cls := "FastPlaneModel", name := "plan", desc := "(III)I" } : Jvm.MethodName)) ∈ lw_all := lw_g (lw_at lw_m10 97 rfl) rfl
theorem q2361 : (Jvm.Cond.instanceMethod ({ cls := "FastPlaneModel", name := "plan", desc := "(III)I" } : Jvm.MethodName)) ∈ lw_all := lw_g (lw_at lw_m10 98 rfl) rfl
theorem q2362 : (Jvm.Cond.selects "FastPlaneModel" ({ cls := "FastPlaneModel", name := "plan", desc := "(III)I" } : Jvm.MethodName) ({ cls := "FastPlaneModel", name := "plan", desc := "(III)I" } : Jvm.MethodName)) ∈ lw_all := lw_g (lw_at lw_m10 99 rfl) rfl
theorem q2363 : (Jvm.Cond.code ({ cls := "FastPlaneModel", name := "plan", desc := "(III)I" } : Jvm.MethodName) prog_24_method_85_code (4 : Nat) (Option.some Jvm.ClassFile.FieldType.int)) ∈ lw_all := lw_g (lw_at lw_m10 100 rfl) rfl
theorem q2364 : (Jvm.Cond.methodLink "FastPlaneModel" (545 : Nat) ({ cls := "FastPlaneModel", name := "planOf", desc := "(III)I" } : Jvm.MethodName)) ∈ lw_all := lw_g (lw_at lw_m10 101 rfl) rfl
theorem q2365 : (Jvm.Cond.privateMethod ({ cls := "FastPlaneModel", name := "planOf", desc := "(III)I" } : Jvm.MethodName)) ∈ lw_tbl := lw_at lw_m10 102 rfl
theorem u2365 : (Jvm.Cond.privateMethod ({ cls := "FastPlaneModel", name := "planOf", desc := "(III)I" } : Jvm.MethodName)) ∈ lw_nw := List.mem_filter.mpr ⟨q2365, rfl⟩
theorem q2366 : (Jvm.Cond.instanceMethod ({ cls := "FastPlaneModel", name := "planOf", desc := "(III)I" } : Jvm.MethodName)) ∈ lw_all := lw_g (lw_at lw_m10 103 rfl) rfl
theorem q2367 : (Jvm.Cond.code ({ cls := "FastPlaneModel", name := "planOf", desc := "(III)I" } : Jvm.MethodName) prog_24_method_84_code (5 : Nat) (Option.some Jvm.ClassFile.FieldType.int)) ∈ lw_all := lw_g (lw_at lw_m10 104 rfl) rfl
theorem q2368 : (Jvm.Cond.methodLink "FastPlaneModel" (539 : Nat) ({ cls := "FastPlaneModel", name := "isFuel", desc := "(II)Z" } : Jvm.MethodName)) ∈ lw_all := lw_g (lw_at lw_m10 105 rfl) rfl
theorem q2369 : (Jvm.Cond.privateMethod ({ cls := "FastPlaneModel", name := "isFuel", desc := "(II)Z" } : Jvm.MethodName)) ∈ lw_tbl := lw_at lw_m10 106 rfl
theorem u2369 : (Jvm.Cond.privateMethod ({ cls := "FastPlaneModel", name := "isFuel", desc := "(II)Z" } : Jvm.MethodName)) ∈ lw_nw := List.mem_filter.mpr ⟨q2369, rfl⟩
theorem q2370 : (Jvm.Cond.instanceMethod ({ cls := "FastPlaneModel", name := "isFuel", desc := "(II)Z" } : Jvm.MethodName)) ∈ lw_all := lw_g (lw_at lw_m10 107 rfl) rfl
theorem q2371 : (Jvm.Cond.code ({ cls := "FastPlaneModel", name := "isFuel", desc := "(II)Z" } : Jvm.MethodName) prog_24_method_83_code (3 : Nat) (Option.some Jvm.ClassFile.FieldType.boolean)) ∈ lw_all := lw_g (lw_at lw_m10 108 rfl) rfl
theorem q2372 : (Jvm.Cond.methodLink "FastPlaneModel" (520 : Nat) ({ cls := "FastPlaneModel", name := "tanks", desc := "()I" } : Jvm.MethodName)) ∈ lw_all := lw_g (lw_at lw_m10 109 rfl) rfl
theorem q2373 : (Jvm.Cond.privateMethod ({ cls := "FastPlaneModel", name := "tanks", desc := "()I" } : Jvm.MethodName)) ∈ lw_tbl := lw_at lw_m10 110 rfl
theorem u2373 : (Jvm.Cond.privateMethod ({ cls := "FastPlaneModel", name := "tanks", desc := "()I" } : Jvm.MethodName)) ∈ lw_nw := List.mem_filter.mpr ⟨q2373, rfl⟩
theorem q2374 : (Jvm.Cond.instanceMethod ({ cls := "FastPlaneModel", name := "tanks", desc := "()I" } : Jvm.MethodName)) ∈ lw_all := lw_g (lw_at lw_m10 111 rfl) rfl
theorem q2375 : (Jvm.Cond.code ({ cls := "FastPlaneModel", name := "tanks", desc := "()I" } : Jvm.MethodName) prog_24_method_77_code (1 : Nat) (Option.some Jvm.ClassFile.FieldType.int)) ∈ lw_all := lw_g (lw_at lw_m10 112 rfl) rfl
theorem q2376 : (Jvm.Cond.methodLink "FastPlaneModel" (542 : Nat) ({ cls := "FastPlaneModel", name := "fillPlan", desc := "()V" } : Jvm.MethodName)) ∈ lw_all := lw_g (lw_at lw_m10 113 rfl) rfl
theorem q2377 : (Jvm.Cond.privateMethod ({ cls := "FastPlaneModel", name := "fillPlan", desc := "()V" } : Jvm.MethodName)) ∈ lw_tbl := lw_at lw_m10 114 rfl
theorem u2377 : (Jvm.Cond.privateMethod ({ cls := "FastPlaneModel", name := "fillPlan", desc := "()V" } : Jvm.MethodName)) ∈ lw_nw := List.mem_filter.mpr ⟨q2377, rfl⟩
theorem q2378 : (Jvm.Cond.instanceMethod ({ cls := "FastPlaneModel", name := "fillPlan", desc := "()V" } : Jvm.MethodName)) ∈ lw_all := lw_g (lw_at lw_m10 115 rfl) rfl
theorem q2379 : (Jvm.Cond.code ({ cls := "FastPlaneModel", name := "fillPlan", desc := "()V" } : Jvm.MethodName) prog_24_method_82_code (5 : Nat) (Option.none : Option Jvm.ClassFile.FieldType)) ∈ lw_all := lw_g (lw_at lw_m10 116 rfl) rfl
theorem q2380 : (Jvm.Cond.methodLink "FastPlaneModel" (517 : Nat) ({ cls := "FastPlaneModel", name := "fillUp", desc := "(I)V" } : Jvm.MethodName)) ∈ lw_all := lw_g (lw_at lw_m10 117 rfl) rfl
theorem q2381 : (Jvm.Cond.privateMethod ({ cls := "FastPlaneModel", name := "fillUp", desc := "(I)V" } : Jvm.MethodName)) ∈ lw_tbl := lw_at lw_m10 118 rfl
theorem u2381 : (Jvm.Cond.privateMethod ({ cls := "FastPlaneModel", name := "fillUp", desc := "(I)V" } : Jvm.MethodName)) ∈ lw_nw := List.mem_filter.mpr ⟨q2381, rfl⟩
theorem q2382 : (Jvm.Cond.instanceMethod ({ cls := "FastPlaneModel", name := "fillUp", desc := "(I)V" } : Jvm.MethodName)) ∈ lw_all := lw_g (lw_at lw_m10 119 rfl) rfl
theorem q2383 : (Jvm.Cond.code ({ cls := "FastPlaneModel", name := "fillUp", desc := "(I)V" } : Jvm.MethodName) prog_24_method_78_code (2 : Nat) (Option.none : Option Jvm.ClassFile.FieldType)) ∈ lw_all := lw_g (lw_at lw_m10 120 rfl) rfl
theorem q2384 : (Jvm.Cond.methodLink "FastPlaneModel" (536 : Nat) ({ cls := "FastPlaneModel", name := "bestMove", desc := "(II)I" } : Jvm.MethodName)) ∈ lw_all := lw_g (lw_at lw_m10 121 rfl) rfl
theorem q2385 : (Jvm.Cond.privateMethod ({ cls := "FastPlaneModel", name := "bestMove", desc := "(II)I" } : Jvm.MethodName)) ∈ lw_tbl := lw_at lw_m10 122 rfl
theorem u2385 : (Jvm.Cond.privateMethod ({ cls := "FastPlaneModel", name := "bestMove", desc := "(II)I" } : Jvm.MethodName)) ∈ lw_nw := List.mem_filter.mpr ⟨q2385, rfl⟩
theorem q2386 : (Jvm.Cond.instanceMethod ({ cls := "FastPlaneModel", name := "bestMove", desc := "(II)I" } : Jvm.MethodName)) ∈ lw_all := lw_g (lw_at lw_m10 123 rfl) rfl
theorem q2387 : (Jvm.Cond.code ({ cls := "FastPlaneModel", name := "bestMove", desc := "(II)I" } : Jvm.MethodName) prog_24_method_81_code (9 : Nat) (Option.some Jvm.ClassFile.FieldType.int)) ∈ lw_all := lw_g (lw_at lw_m10 124 rfl) rfl
theorem q2388 : (Jvm.Cond.methodLink "FastPlaneModel" (529 : Nat) ({ cls := "FastPlaneModel", name := "tryMove", desc := "(IIIIII)I" } : Jvm.MethodName)) ∈ lw_all := lw_g (lw_at lw_m10 125 rfl) rfl
theorem q2389 : (Jvm.Cond.privateMethod ({ cls := "FastPlaneModel", name := "tryMove", desc := "(IIIIII)I" } : Jvm.MethodName)) ∈ lw_tbl := lw_at lw_m10 126 rfl
theorem u2389 : (Jvm.Cond.privateMethod ({ cls := "FastPlaneModel", name := "tryMove", desc := "(IIIIII)I" } : Jvm.MethodName)) ∈ lw_nw := List.mem_filter.mpr ⟨q2389, rfl⟩
theorem q2390 : (Jvm.Cond.instanceMethod ({ cls := "FastPlaneModel", name := "tryMove", desc := "(IIIIII)I" } : Jvm.MethodName)) ∈ lw_all := lw_g (lw_at lw_m10 127 rfl) rfl
theorem q2391 : (Jvm.Cond.code ({ cls := "FastPlaneModel", name := "tryMove", desc := "(IIIIII)I" } : Jvm.MethodName) prog_24_method_80_code (10 : Nat) (Option.some Jvm.ClassFile.FieldType.int)) ∈ lw_all := lw_g (lw_at lw_m10 128 rfl) rfl
theorem q2392 : (Jvm.Cond.methodLink "FastPlaneModel" (523 : Nat) ({ cls := "FastPlaneModel", name := "stateNow", desc := "()I" } : Jvm.MethodName)) ∈ lw_all := lw_g (lw_at lw_m10 129 rfl) rfl
theorem q2393 : (Jvm.Cond.privateMethod ({ cls := "FastPlaneModel", name := "stateNow", desc := "()I" } : Jvm.MethodName)) ∈ lw_tbl := lw_at lw_m10 130 rfl
theorem u2393 : (Jvm.Cond.privateMethod ({ cls := "FastPlaneModel", name := "stateNow", desc := "()I" } : Jvm.MethodName)) ∈ lw_nw := List.mem_filter.mpr ⟨q2393, rfl⟩
theorem q2394 : (Jvm.Cond.instanceMethod ({ cls := "FastPlaneModel", name := "stateNow", desc := "()I" } : Jvm.MethodName)) ∈ lw_all := lw_g (lw_at lw_m10 131 rfl) rfl
theorem q2395 : (Jvm.Cond.code ({ cls := "FastPlaneModel", name := "stateNow", desc := "()I" } : Jvm.MethodName) prog_24_method_79_code (1 : Nat) (Option.some Jvm.ClassFile.FieldType.int)) ∈ lw_all := lw_g (lw_at lw_m10 132 rfl) rfl
theorem q2396 : (Jvm.Cond.methodLink "FastPlaneLaw" (120 : Nat) ({ cls := "FastPlaneModel", name := "move", desc := "(IIII)I" } : Jvm.MethodName)) ∈ lw_all := lw_g (lw_at lw_m10 133 rfl) rfl
theorem q2397 : (Jvm.Cond.instanceMethod ({ cls := "FastPlaneModel", name := "move", desc := "(IIII)I" } : Jvm.MethodName)) ∈ lw_all := lw_g (lw_at lw_m10 134 rfl) rfl
theorem q2398 : (Jvm.Cond.selects "FastPlaneModel" ({ cls := "FastPlaneModel", name := "move", desc := "(IIII)I" } : Jvm.MethodName) ({ cls := "FastPlaneModel", name := "move", desc := "(IIII)I" } : Jvm.MethodName)) ∈ lw_all := lw_g (lw_at lw_m10 135 rfl) rfl
theorem q2399 : (Jvm.Cond.code ({ cls := "FastPlaneModel", name := "move", desc := "(IIII)I" } : Jvm.MethodName) prog_24_method_86_code (8 : Nat) (Option.some Jvm.ClassFile.FieldType.int)) ∈ lw_all := lw_g (lw_at lw_m10 136 rfl) rfl
theorem q2400 : (Jvm.Cond.methodLink "FastPlaneLaw" (125 : Nat) ({ cls := "FastPlaneModel", name := "soonest", desc := "(IIIIII)I" } : Jvm.MethodName)) ∈ lw_all := lw_g (lw_at lw_m10 137 rfl) rfl
theorem q2401 : (Jvm.Cond.instanceMethod ({ cls := "FastPlaneModel", name := "soonest", desc := "(IIIIII)I" } : Jvm.MethodName)) ∈ lw_all := lw_g (lw_at lw_m10 138 rfl) rfl
theorem q2402 : (Jvm.Cond.selects "FastPlaneModel" ({ cls := "FastPlaneModel", name := "soonest", desc := "(IIIIII)I" } : Jvm.MethodName) ({ cls := "FastPlaneModel", name := "soonest", desc := "(IIIIII)I" } : Jvm.MethodName)) ∈ lw_all := lw_g (lw_at lw_m10 139 rfl) rfl
theorem q2403 : (Jvm.Cond.code ({ cls := "FastPlaneModel", name := "soonest", desc := "(IIIIII)I" } : Jvm.MethodName) prog_24_method_88_code (10 : Nat) (Option.some Jvm.ClassFile.FieldType.int)) ∈ lw_all := lw_g (lw_at lw_m10 140 rfl) rfl
theorem q2404 : (Jvm.Cond.methodLink "FastPlaneModel" (548 : Nat) ({ cls := "FastPlaneModel", name := "enter", desc := "(IIIIIII)V" } : Jvm.MethodName)) ∈ lw_all := lw_g (lw_at lw_m10 141 rfl) rfl
theorem q2405 : (Jvm.Cond.privateMethod ({ cls := "FastPlaneModel", name := "enter", desc := "(IIIIIII)V" } : Jvm.MethodName)) ∈ lw_tbl := lw_at lw_m10 142 rfl
theorem u2405 : (Jvm.Cond.privateMethod ({ cls := "FastPlaneModel", name := "enter", desc := "(IIIIIII)V" } : Jvm.MethodName)) ∈ lw_nw := List.mem_filter.mpr ⟨q2405, rfl⟩
theorem q2406 : (Jvm.Cond.instanceMethod ({ cls := "FastPlaneModel", name := "enter", desc := "(IIIIIII)V" } : Jvm.MethodName)) ∈ lw_all := lw_g (lw_at lw_m10 143 rfl) rfl
theorem q2407 : (Jvm.Cond.code ({ cls := "FastPlaneModel", name := "enter", desc := "(IIIIIII)V" } : Jvm.MethodName) prog_24_method_87_code (11 : Nat) (Option.none : Option Jvm.ClassFile.FieldType)) ∈ lw_all := lw_g (lw_at lw_m10 144 rfl) rfl
theorem q2408 : (Jvm.Cond.methodLink "FastPlaneLaw" (129 : Nat) ({ cls := "FastPlaneModel", name := "airline", desc := "(II)I" } : Jvm.MethodName)) ∈ lw_all := lw_g (lw_at lw_m10 145 rfl) rfl
theorem q2409 : (Jvm.Cond.instanceMethod ({ cls := "FastPlaneModel", name := "airline", desc := "(II)I" } : Jvm.MethodName)) ∈ lw_all := lw_g (lw_at lw_m10 146 rfl) rfl
theorem q2410 : (Jvm.Cond.selects "FastPlaneModel" ({ cls := "FastPlaneModel", name := "airline", desc := "(II)I" } : Jvm.MethodName) ({ cls := "FastPlaneModel", name := "airline", desc := "(II)I" } : Jvm.MethodName)) ∈ lw_all := lw_g (lw_at lw_m10 147 rfl) rfl
theorem q2411 : (Jvm.Cond.code ({ cls := "FastPlaneModel", name := "airline", desc := "(II)I" } : Jvm.MethodName) prog_24_method_89_code (3 : Nat) (Option.some Jvm.ClassFile.FieldType.int)) ∈ lw_all := lw_g (lw_at lw_m10 148 rfl) rfl
theorem q2412 : (Jvm.Cond.methodLink "FastPlaneLaw" (133 : Nat) ({ cls := "FastPlaneModel", name := "hold", desc := "(III)I" } : Jvm.MethodName)) ∈ lw_all := lw_g (lw_at lw_m10 149 rfl) rfl
theorem q2413 : (Jvm.Cond.instanceMethod ({ cls := "FastPlaneModel", name := "hold", desc := "(III)I" } : Jvm.MethodName)) ∈ lw_all := lw_g (lw_at lw_m10 150 rfl) rfl
theorem q2414 : (Jvm.Cond.selects "FastPlaneModel" ({ cls := "FastPlaneModel", name := "hold", desc := "(III)I" } : Jvm.MethodName) ({ cls := "FastPlaneModel", name := "hold", desc := "(III)I" } : Jvm.MethodName)) ∈ lw_all := lw_g (lw_at lw_m10 151 rfl) rfl
theorem q2415 : (Jvm.Cond.code ({ cls := "FastPlaneModel", name := "hold", desc := "(III)I" } : Jvm.MethodName) prog_24_method_91_code (4 : Nat) (Option.some Jvm.ClassFile.FieldType.int)) ∈ lw_all := lw_g (lw_at lw_m10 152 rfl) rfl
theorem q2416 : (Jvm.Cond.methodLink "FastPlaneModel" (555 : Nat) ({ cls := "FastPlaneModel", name := "rounds", desc := "(III)I" } : Jvm.MethodName)) ∈ lw_all := lw_g (lw_at lw_m10 153 rfl) rfl
theorem q2417 : (Jvm.Cond.privateMethod ({ cls := "FastPlaneModel", name := "rounds", desc := "(III)I" } : Jvm.MethodName)) ∈ lw_tbl := lw_at lw_m10 154 rfl
theorem u2417 : (Jvm.Cond.privateMethod ({ cls := "FastPlaneModel", name := "rounds", desc := "(III)I" } : Jvm.MethodName)) ∈ lw_nw := List.mem_filter.mpr ⟨q2417, rfl⟩
theorem q2418 : (Jvm.Cond.instanceMethod ({ cls := "FastPlaneModel", name := "rounds", desc := "(III)I" } : Jvm.MethodName)) ∈ lw_all := lw_g (lw_at lw_m10 155 rfl) rfl
theorem q2419 : (Jvm.Cond.code ({ cls := "FastPlaneModel", name := "rounds", desc := "(III)I" } : Jvm.MethodName) prog_24_method_90_code (10 : Nat) (Option.some Jvm.ClassFile.FieldType.int)) ∈ lw_all := lw_g (lw_at lw_m10 156 rfl) rfl
theorem q2420 : (Jvm.Cond.methodLink "FastPlaneLaw" (137 : Nat) ({ cls := "FastPlaneModel", name := "lapse", desc := "(IIII)I" } : Jvm.MethodName)) ∈ lw_all := lw_g (lw_at lw_m10 157 rfl) rfl
theorem q2421 : (Jvm.Cond.instanceMethod ({ cls := "FastPlaneModel", name := "lapse", desc := "(IIII)I" } : Jvm.MethodName)) ∈ lw_all := lw_g (lw_at lw_m10 158 rfl) rfl
theorem q2422 : (Jvm.Cond.selects "FastPlaneModel" ({ cls := "FastPlaneModel", name := "lapse", desc := "(IIII)I" } : Jvm.MethodName) ({ cls := "FastPlaneModel", name := "lapse", desc := "(IIII)I" } : Jvm.MethodName)) ∈ lw_all := lw_g (lw_at lw_m10 159 rfl) rfl
theorem q2423 : (Jvm.Cond.code ({ cls := "FastPlaneModel", name := "lapse", desc := "(IIII)I" } : Jvm.MethodName) prog_24_method_92_code (5 : Nat) (Option.some Jvm.ClassFile.FieldType.int)) ∈ lw_all := lw_g (lw_at lw_m10 160 rfl) rfl
theorem q2424 : (Jvm.Cond.methodLink "FastPlaneModel" (558 : Nat) ({ cls := "FastPlaneModel", name := "hold", desc := "(III)I" } : Jvm.MethodName)) ∈ lw_all := lw_g (lw_at lw_m10 161 rfl) rfl
theorem q2425 : (Jvm.Cond.methodLink "FastPlaneLaw" (141 : Nat) ({ cls := "FastPlaneModel", name := "shared", desc := "(I)I" } : Jvm.MethodName)) ∈ lw_all := lw_g (lw_at lw_m10 162 rfl) rfl
theorem q2426 : (Jvm.Cond.instanceMethod ({ cls := "FastPlaneModel", name := "shared", desc := "(I)I" } : Jvm.MethodName)) ∈ lw_all := lw_g (lw_at lw_m10 163 rfl) rfl
theorem q2427 : (Jvm.Cond.selects "FastPlaneModel" ({ cls := "FastPlaneModel", name := "shared", desc := "(I)I" } : Jvm.MethodName) ({ cls := "FastPlaneModel", name := "shared", desc := "(I)I" } : Jvm.MethodName)) ∈ lw_all := lw_g (lw_at lw_m10 164 rfl) rfl
theorem q2428 : (Jvm.Cond.code ({ cls := "FastPlaneModel", name := "shared", desc := "(I)I" } : Jvm.MethodName) prog_24_method_95_code (2 : Nat) (Option.some Jvm.ClassFile.FieldType.int)) ∈ lw_all := lw_g (lw_at lw_m10 165 rfl) rfl
theorem q2429 : (Jvm.Cond.methodLink "FastPlaneModel" (576 : Nat) ({ cls := "FastPlaneModel", name := "seekShared", desc := "(I)V" } : Jvm.MethodName)) ∈ lw_all := lw_g (lw_at lw_m10 166 rfl) rfl
theorem q2430 : (Jvm.Cond.privateMethod ({ cls := "FastPlaneModel", name := "seekShared", desc := "(I)V" } : Jvm.MethodName)) ∈ lw_tbl := lw_at lw_m10 167 rfl
theorem u2430 : (Jvm.Cond.privateMethod ({ cls := "FastPlaneModel", name := "seekShared", desc := "(I)V" } : Jvm.MethodName)) ∈ lw_nw := List.mem_filter.mpr ⟨q2430, rfl⟩
theorem q2431 : (Jvm.Cond.instanceMethod ({ cls := "FastPlaneModel", name := "seekShared", desc := "(I)V" } : Jvm.MethodName)) ∈ lw_all := lw_g (lw_at lw_m10 168 rfl) rfl
theorem q2432 : (Jvm.Cond.code ({ cls := "FastPlaneModel", name := "seekShared", desc := "(I)V" } : Jvm.MethodName) prog_24_method_94_code (5 : Nat) (Option.none : Option Jvm.ClassFile.FieldType)) ∈ lw_all := lw_g (lw_at lw_m10 169 rfl) rfl
theorem q2433 : (Jvm.Cond.methodLink "FastPlaneModel" (573 : Nat) ({ cls := "FastPlaneModel", name := "give", desc := "(II)V" } : Jvm.MethodName)) ∈ lw_all := lw_g (lw_at lw_m10 170 rfl) rfl
theorem q2434 : (Jvm.Cond.privateMethod ({ cls := "FastPlaneModel", name := "give", desc := "(II)V" } : Jvm.MethodName)) ∈ lw_tbl := lw_at lw_m10 171 rfl
theorem u2434 : (Jvm.Cond.privateMethod ({ cls := "FastPlaneModel", name := "give", desc := "(II)V" } : Jvm.MethodName)) ∈ lw_nw := List.mem_filter.mpr ⟨q2434, rfl⟩
theorem q2435 : (Jvm.Cond.instanceMethod ({ cls := "FastPlaneModel", name := "give", desc := "(II)V" } : Jvm.MethodName)) ∈ lw_all := lw_g (lw_at lw_m10 172 rfl) rfl
theorem q2436 : (Jvm.Cond.code ({ cls := "FastPlaneModel", name := "give", desc := "(II)V" } : Jvm.MethodName) prog_24_method_93_code (4 : Nat) (Option.none : Option Jvm.ClassFile.FieldType)) ∈ lw_all := lw_g (lw_at lw_m10 173 rfl) rfl
theorem q2437 : (Jvm.Cond.methodLink "FastPlaneLaw" (145 : Nat) ({ cls := "FastPlaneModel", name := "maker", desc := "(II)I" } : Jvm.MethodName)) ∈ lw_all := lw_g (lw_at lw_m10 174 rfl) rfl
theorem q2438 : (Jvm.Cond.instanceMethod ({ cls := "FastPlaneModel", name := "maker", desc := "(II)I" } : Jvm.MethodName)) ∈ lw_all := lw_g (lw_at lw_m10 175 rfl) rfl
theorem q2439 : (Jvm.Cond.selects "FastPlaneModel" ({ cls := "FastPlaneModel", name := "maker", desc := "(II)I" } : Jvm.MethodName) ({ cls := "FastPlaneModel", name := "maker", desc := "(II)I" } : Jvm.MethodName)) ∈ lw_all := lw_g (lw_at lw_m10 176 rfl) rfl
theorem q2440 : (Jvm.Cond.code ({ cls := "FastPlaneModel", name := "maker", desc := "(II)I" } : Jvm.MethodName) prog_24_method_96_code (3 : Nat) (Option.some Jvm.ClassFile.FieldType.int)) ∈ lw_all := lw_g (lw_at lw_m10 177 rfl) rfl
theorem q2441 : (Jvm.Cond.methodLink "FastPlaneModel" (579 : Nat) ({ cls := "FastPlaneModel", name := "shared", desc := "(I)I" } : Jvm.MethodName)) ∈ lw_all := lw_g (lw_at lw_m10 178 rfl) rfl
theorem q2442 : (Jvm.Cond.methodLink "FastPlaneLaw" (149 : Nat) ({ cls := "FastPlaneModel", name := "stage", desc := "(II)I" } : Jvm.MethodName)) ∈ lw_all := lw_g (lw_at lw_m10 179 rfl) rfl
theorem q2443 : (Jvm.Cond.instanceMethod ({ cls := "FastPlaneModel", name := "stage", desc := "(II)I" } : Jvm.MethodName)) ∈ lw_all := lw_g (lw_at lw_m10 180 rfl) rfl
theorem q2444 : (Jvm.Cond.selects "FastPlaneModel" ({ cls := "FastPlaneModel", name := "stage", desc := "(II)I" } : Jvm.MethodName) ({ cls := "FastPlaneModel", name := "stage", desc := "(II)I" } : Jvm.MethodName)) ∈ lw_all := lw_g (lw_at lw_m10 181 rfl) rfl
theorem q2445 : (Jvm.Cond.code ({ cls := "FastPlaneModel", name := "stage", desc := "(II)I" } : Jvm.MethodName) prog_24_method_97_code (3 : Nat) (Option.some Jvm.ClassFile.FieldType.int)) ∈ lw_all := lw_g (lw_at lw_m10 182 rfl) rfl
theorem q2446 : (Jvm.Cond.methodLink "FastPlaneLaw" (154 : Nat) ({ cls := "FastPlaneModel", name := "grant", desc := "(II)Z" } : Jvm.MethodName)) ∈ lw_all := lw_g (lw_at lw_m10 183 rfl) rfl
theorem q2447 : (Jvm.Cond.instanceMethod ({ cls := "FastPlaneModel", name := "grant", desc := "(II)Z" } : Jvm.MethodName)) ∈ lw_all := lw_g (lw_at lw_m10 184 rfl) rfl
theorem q2448 : (Jvm.Cond.selects "FastPlaneModel" ({ cls := "FastPlaneModel", name := "grant", desc := "(II)Z" } : Jvm.MethodName) ({ cls := "FastPlaneModel", name := "grant", desc := "(II)Z" } : Jvm.MethodName)) ∈ lw_all := lw_g (lw_at lw_m10 185 rfl) rfl
theorem q2449 : (Jvm.Cond.code ({ cls := "FastPlaneModel", name := "grant", desc := "(II)Z" } : Jvm.MethodName) prog_24_method_98_code (3 : Nat) (Option.some Jvm.ClassFile.FieldType.boolean)) ∈ lw_all := lw_g (lw_at lw_m10 186 rfl) rfl
theorem q2450 : (Jvm.Cond.methodLink "FastPlaneLaw" (158 : Nat) ({ cls := "FastPlaneModel", name := "safe", desc := "(III)I" } : Jvm.MethodName)) ∈ lw_all := lw_g (lw_at lw_m10 187 rfl) rfl
theorem q2451 : (Jvm.Cond.instanceMethod ({ cls := "FastPlaneModel", name := "safe", desc := "(III)I" } : Jvm.MethodName)) ∈ lw_all := lw_g (lw_at lw_m10 188 rfl) rfl
theorem q2452 : (Jvm.Cond.selects "FastPlaneModel" ({ cls := "FastPlaneModel", name := "safe", desc := "(III)I" } : Jvm.MethodName) ({ cls := "FastPlaneModel", name := "safe", desc := "(III)I" } : Jvm.MethodName)) ∈ lw_all := lw_g (lw_at lw_m10 189 rfl) rfl
theorem q2453 : (Jvm.Cond.code ({ cls := "FastPlaneModel", name := "safe", desc := "(III)I" } : Jvm.MethodName) prog_24_method_106_code (4 : Nat) (Option.some Jvm.ClassFile.FieldType.int)) ∈ lw_all := lw_g (lw_at lw_m10 190 rfl) rfl
theorem q2454 : (Jvm.Cond.methodLink "FastPlaneModel" (608 : Nat) ({ cls := "FastPlaneModel", name := "isMoney", desc := "(II)Z" } : Jvm.MethodName)) ∈ lw_all := lw_g (lw_at lw_m10 191 rfl) rfl
theorem q2455 : (Jvm.Cond.static ({ cls := "FastPlaneModel", name := "isMoney", desc := "(II)Z" } : Jvm.MethodName)) ∈ lw_all := lw_g (lw_at lw_m10 192 rfl) rfl
theorem q2456 : (Jvm.Cond.code ({ cls := "FastPlaneModel", name := "isMoney", desc := "(II)Z" } : Jvm.MethodName) prog_24_method_105_code (2 : Nat) (Option.some Jvm.ClassFile.FieldType.boolean)) ∈ lw_all := lw_g (lw_at lw_m10 193 rfl) rfl
theorem q2457 : (Jvm.Cond.methodLink "FastPlaneModel" (611 : Nat) ({ cls := "FastPlaneModel", name := "layStages", desc := "()V" } : Jvm.MethodName)) ∈ lw_all := lw_g (lw_at lw_m10 194 rfl) rfl
theorem q2458 : (Jvm.Cond.privateMethod ({ cls := "FastPlaneModel", name := "layStages", desc := "()V" } : Jvm.MethodName)) ∈ lw_tbl := lw_at lw_m10 195 rfl
theorem u2458 : (Jvm.Cond.privateMethod ({ cls := "FastPlaneModel", name := "layStages", desc := "()V" } : Jvm.MethodName)) ∈ lw_nw := List.mem_filter.mpr ⟨q2458, rfl⟩
theorem q2459 : (Jvm.Cond.instanceMethod ({ cls := "FastPlaneModel", name := "layStages", desc := "()V" } : Jvm.MethodName)) ∈ lw_all := lw_g (lw_at lw_m10 196 rfl) rfl
theorem q2460 : (Jvm.Cond.code ({ cls := "FastPlaneModel", name := "layStages", desc := "()V" } : Jvm.MethodName) prog_24_method_104_code (6 : Nat) (Option.none : Option Jvm.ClassFile.FieldType)) ∈ lw_all := lw_g (lw_at lw_m10 197 rfl) rfl
theorem q2461 : (Jvm.Cond.methodLink "FastPlaneModel" (594 : Nat) ({ cls := "FastPlaneModel", name := "stateOf", desc := "(IIIII)I" } : Jvm.MethodName)) ∈ lw_all := lw_g (lw_at lw_m10 198 rfl) rfl
theorem q2462 : (Jvm.Cond.static ({ cls := "FastPlaneModel", name := "stateOf", desc := "(IIIII)I" } : Jvm.MethodName)) ∈ lw_all := lw_g (lw_at lw_m10 199 rfl) rfl
theorem q2463 : (Jvm.Cond.code ({ cls := "FastPlaneModel", name := "stateOf", desc := "(IIIII)I" } : Jvm.MethodName) prog_24_method_99_code (5 : Nat) (Option.some Jvm.ClassFile.FieldType.int)) ∈ lw_all := lw_g (lw_at lw_m10 200 rfl) rfl
theorem q2464 : (Jvm.Cond.methodLink "FastPlaneModel" (602 : Nat) ({ cls := "FastPlaneModel", name := "waits", desc := "(IIIII)Z" } : Jvm.MethodName)) ∈ lw_all := lw_g (lw_at lw_m10 201 rfl) rfl
theorem q2465 : (Jvm.Cond.privateMethod ({ cls := "FastPlaneModel", name := "waits", desc := "(IIIII)Z" } : Jvm.MethodName)) ∈ lw_tbl := lw_at lw_m10 202 rfl
theorem u2465 : (Jvm.Cond.privateMethod ({ cls := "FastPlaneModel", name := "waits", desc := "(IIIII)Z" } : Jvm.MethodName)) ∈ lw_nw := List.mem_filter.mpr ⟨q2465, rfl⟩
theorem q2466 : (Jvm.Cond.instanceMethod ({ cls := "FastPlaneModel", name := "waits", desc := "(IIIII)Z" } : Jvm.MethodName)) ∈ lw_all := lw_g (lw_at lw_m10 203 rfl) rfl
theorem q2467 : (Jvm.Cond.code ({ cls := "FastPlaneModel", name := "waits", desc := "(IIIII)Z" } : Jvm.MethodName) prog_24_method_101_code (6 : Nat) (Option.some Jvm.ClassFile.FieldType.boolean)) ∈ lw_all := lw_g (lw_at lw_m10 204 rfl) rfl
theorem q2468 : (Jvm.Cond.methodLink "FastPlaneModel" (591 : Nat) ({ cls := "FastPlaneModel", name := "capped", desc := "(I)I" } : Jvm.MethodName)) ∈ lw_all := lw_g (lw_at lw_m10 205 rfl) rfl
theorem q2469 : (Jvm.Cond.static ({ cls := "FastPlaneModel", name := "capped", desc := "(I)I" } : Jvm.MethodName)) ∈ lw_all := lw_g (lw_at lw_m10 206 rfl) rfl
theorem q2470 : (Jvm.Cond.code ({ cls := "FastPlaneModel", name := "capped", desc := "(I)I" } : Jvm.MethodName) prog_24_method_100_code (1 : Nat) (Option.some Jvm.ClassFile.FieldType.int)) ∈ lw_all := lw_g (lw_at lw_m10 207 rfl) rfl
theorem q2471 : (Jvm.Cond.methodLink "FastPlaneModel" (605 : Nat) ({ cls := "FastPlaneModel", name := "goesOn", desc := "(IIIII)Z" } : Jvm.MethodName)) ∈ lw_all := lw_g (lw_at lw_m10 208 rfl) rfl
theorem q2472 : (Jvm.Cond.privateMethod ({ cls := "FastPlaneModel", name := "goesOn", desc := "(IIIII)Z" } : Jvm.MethodName)) ∈ lw_tbl := lw_at lw_m10 209 rfl
theorem u2472 : (Jvm.Cond.privateMethod ({ cls := "FastPlaneModel", name := "goesOn", desc := "(IIIII)Z" } : Jvm.MethodName)) ∈ lw_nw := List.mem_filter.mpr ⟨q2472, rfl⟩
theorem q2473 : (Jvm.Cond.instanceMethod ({ cls := "FastPlaneModel", name := "goesOn", desc := "(IIIII)Z" } : Jvm.MethodName)) ∈ lw_all := lw_g (lw_at lw_m10 210 rfl) rfl
theorem q2474 : (Jvm.Cond.code ({ cls := "FastPlaneModel", name := "goesOn", desc := "(IIIII)Z" } : Jvm.MethodName) prog_24_method_103_code (8 : Nat) (Option.some Jvm.ClassFile.FieldType.boolean)) ∈ lw_all := lw_g (lw_at lw_m10 211 rfl) rfl
theorem q2475 : (Jvm.Cond.methodLink "FastPlaneModel" (598 : Nat) ({ cls := "FastPlaneModel", name := "paid", desc := "(IIIII)Z" } : Jvm.MethodName)) ∈ lw_all := lw_g (lw_at lw_m10 212 rfl) rfl
theorem q2476 : (Jvm.Cond.privateMethod ({ cls := "FastPlaneModel", name := "paid", desc := "(IIIII)Z" } : Jvm.MethodName)) ∈ lw_tbl := lw_at lw_m10 213 rfl
theorem u2476 : (Jvm.Cond.privateMethod ({ cls := "FastPlaneModel", name := "paid", desc := "(IIIII)Z" } : Jvm.MethodName)) ∈ lw_nw := List.mem_filter.mpr ⟨q2476, rfl⟩
theorem q2477 : (Jvm.Cond.instanceMethod ({ cls := "FastPlaneModel", name := "paid", desc := "(IIIII)Z" } : Jvm.MethodName)) ∈ lw_all := lw_g (lw_at lw_m10 214 rfl) rfl
theorem q2478 : (Jvm.Cond.code ({ cls := "FastPlaneModel", name := "paid", desc := "(IIIII)Z" } : Jvm.MethodName) prog_24_method_102_code (6 : Nat) (Option.some Jvm.ClassFile.FieldType.boolean)) ∈ lw_all := lw_g (lw_at lw_m10 215 rfl) rfl
theorem q2479 : (Jvm.Cond.methodLink "FastPlaneLaw" (162 : Nat) ({ cls := "FastPlaneModel", name := "bears", desc := "(II)I" } : Jvm.MethodName)) ∈ lw_all := lw_g (lw_at lw_m10 216 rfl) rfl
theorem q2480 : (Jvm.Cond.instanceMethod ({ cls := "FastPlaneModel", name := "bears", desc := "(II)I" } : Jvm.MethodName)) ∈ lw_all := lw_g (lw_at lw_m10 217 rfl) rfl
theorem q2481 : (Jvm.Cond.selects "FastPlaneModel" ({ cls := "FastPlaneModel", name := "bears", desc := "(II)I" } : Jvm.MethodName) ({ cls := "FastPlaneModel", name := "bears", desc := "(II)I" } : Jvm.MethodName)) ∈ lw_all := lw_g (lw_at lw_m10 218 rfl) rfl
theorem q2482 : (Jvm.Cond.code ({ cls := "FastPlaneModel", name := "bears", desc := "(II)I" } : Jvm.MethodName) prog_24_method_107_code (4 : Nat) (Option.some Jvm.ClassFile.FieldType.int)) ∈ lw_all := lw_g (lw_at lw_m10 219 rfl) rfl
theorem q2483 : (Jvm.Cond.methodLink "FastPlaneLaw" (166 : Nat) ({ cls := "FastPlaneModel", name := "should", desc := "(III)I" } : Jvm.MethodName)) ∈ lw_all := lw_g (lw_at lw_m10 220 rfl) rfl
theorem q2484 : (Jvm.Cond.instanceMethod ({ cls := "FastPlaneModel", name := "should", desc := "(III)I" } : Jvm.MethodName)) ∈ lw_all := lw_g (lw_at lw_m10 221 rfl) rfl
theorem q2485 : (Jvm.Cond.selects "FastPlaneModel" ({ cls := "FastPlaneModel", name := "should", desc := "(III)I" } : Jvm.MethodName) ({ cls := "FastPlaneModel", name := "should", desc := "(III)I" } : Jvm.MethodName)) ∈ lw_all := lw_g (lw_at lw_m10 222 rfl) rfl
theorem q2486 : (Jvm.Cond.code ({ cls := "FastPlaneModel", name := "should", desc := "(III)I" } : Jvm.MethodName) prog_24_method_108_code (4 : Nat) (Option.some Jvm.ClassFile.FieldType.int)) ∈ lw_all := lw_g (lw_at lw_m10 223 rfl) rfl
theorem q2487 : (Jvm.Cond.methodLink "FastPlaneModel" (614 : Nat) ({ cls := "FastPlaneModel", name := "safe", desc := "(III)I" } : Jvm.MethodName)) ∈ lw_all := lw_g (lw_at lw_m10 224 rfl) rfl
theorem q2488 : (Jvm.Cond.methodLink "FastPlaneLaw" (170 : Nat) ({ cls := "FastPlaneModel", name := "about", desc := "(I)I" } : Jvm.MethodName)) ∈ lw_all := lw_g (lw_at lw_m10 225 rfl) rfl
theorem q2489 : (Jvm.Cond.instanceMethod ({ cls := "FastPlaneModel", name := "about", desc := "(I)I" } : Jvm.MethodName)) ∈ lw_all := lw_g (lw_at lw_m10 226 rfl) rfl
theorem q2490 : (Jvm.Cond.selects "FastPlaneModel" ({ cls := "FastPlaneModel", name := "about", desc := "(I)I" } : Jvm.MethodName) ({ cls := "FastPlaneModel", name := "about", desc := "(I)I" } : Jvm.MethodName)) ∈ lw_all := lw_g (lw_at lw_m10 227 rfl) rfl
theorem q2491 : (Jvm.Cond.code ({ cls := "FastPlaneModel", name := "about", desc := "(I)I" } : Jvm.MethodName) prog_24_method_109_code (2 : Nat) (Option.some Jvm.ClassFile.FieldType.int)) ∈ lw_all := lw_g (lw_at lw_m10 228 rfl) rfl
theorem q2492 : (Jvm.Cond.methodLink "FastPlaneLaw" (17 : Nat) ({ cls := "FastPlaneModel", name := "feed", desc := "(IIIII)I" } : Jvm.MethodName)) ∈ lw_all := lw_g (lw_at lw_m10 229 rfl) rfl
theorem q2493 : (Jvm.Cond.instanceMethod ({ cls := "FastPlaneModel", name := "feed", desc := "(IIIII)I" } : Jvm.MethodName)) ∈ lw_all := lw_g (lw_at lw_m10 230 rfl) rfl
theorem q2494 : (Jvm.Cond.selects "FastPlaneModel" ({ cls := "FastPlaneModel", name := "feed", desc := "(IIIII)I" } : Jvm.MethodName) ({ cls := "FastPlaneModel", name := "feed", desc := "(IIIII)I" } : Jvm.MethodName)) ∈ lw_all := lw_g (lw_at lw_m10 231 rfl) rfl
theorem q2495 : (Jvm.Cond.code ({ cls := "FastPlaneModel", name := "feed", desc := "(IIIII)I" } : Jvm.MethodName) prog_24_method_110_code (8 : Nat) (Option.some Jvm.ClassFile.FieldType.int)) ∈ lw_all := lw_g (lw_at lw_m10 232 rfl) rfl
theorem q2496 : (Jvm.Cond.methodLink "FastPlaneLaw" (22 : Nat) ({ cls := "FastPlaneModel", name := "end", desc := "(I)I" } : Jvm.MethodName)) ∈ lw_all := lw_g (lw_at lw_m10 233 rfl) rfl
theorem q2497 : (Jvm.Cond.instanceMethod ({ cls := "FastPlaneModel", name := "end", desc := "(I)I" } : Jvm.MethodName)) ∈ lw_all := lw_g (lw_at lw_m10 234 rfl) rfl
theorem q2498 : (Jvm.Cond.selects "FastPlaneModel" ({ cls := "FastPlaneModel", name := "end", desc := "(I)I" } : Jvm.MethodName) ({ cls := "FastPlaneModel", name := "end", desc := "(I)I" } : Jvm.MethodName)) ∈ lw_all := lw_g (lw_at lw_m10 235 rfl) rfl
theorem q2499 : (Jvm.Cond.code ({ cls := "FastPlaneModel", name := "end", desc := "(I)I" } : Jvm.MethodName) prog_24_method_111_code (2 : Nat) (Option.some Jvm.ClassFile.FieldType.int)) ∈ lw_all := lw_g (lw_at lw_m10 236 rfl) rfl
theorem q2502 : (Jvm.Cond.sameMethod "java/lang/AbstractStringBuilder" "java/lang/AbstractStringBuilder" "append" "(C)Ljava/lang/AbstractStringBuilder;") ∈ lw_all := lw_g (lw_at lw_m10 239 rfl) rfl
theorem q2509 : (Jvm.Cond.selects "FastPlane$MachineReader" ({ cls := "FastPlane$Reader", name := "is", desc := "(Ljava/lang/String;)Z" } : Jvm.MethodName) ({ cls := "FastPlane$Reader", name := "is", desc := "(Ljava/lang/String;)Z" } : Jvm.MethodName)) ∈ lw_all := lw_g (lw_at lw_m11 6 rfl) rfl
theorem q2510 : (Jvm.Cond.selects "FastPlane$TreatyReader" ({ cls := "FastPlane$Reader", name := "is", desc := "(Ljava/lang/String;)Z" } : Jvm.MethodName) ({ cls := "FastPlane$Reader", name := "is", desc := "(Ljava/lang/String;)Z" } : Jvm.MethodName)) ∈ lw_all := lw_g (lw_at lw_m11 7 rfl) rfl
theorem q2512 : (Jvm.Cond.selects "FastPlane$MachineReader" ({ cls := "FastPlane$Reader", name := "next", desc := "()V" } : Jvm.MethodName) ({ cls := "FastPlane$Reader", name := "next", desc := "()V" } : Jvm.MethodName)) ∈ lw_all := lw_g (lw_at lw_m11 9 rfl) rfl
theorem q2513 : (Jvm.Cond.selects "FastPlane$TreatyReader" ({ cls := "FastPlane$Reader", name := "next", desc := "()V" } : Jvm.MethodName) ({ cls := "FastPlane$Reader", name := "next", desc := "()V" } : Jvm.MethodName)) ∈ lw_all := lw_g (lw_at lw_m11 10 rfl) rfl
theorem q2515 : (Jvm.Cond.selects "FastPlane$Change" ({ cls := "FastPlane$Fact", name := "counts", desc := "(I)Z" } : Jvm.MethodName) ({ cls := "FastPlane$Fact", name := "counts", desc := "(I)Z" } : Jvm.MethodName)) ∈ lw_all := lw_g (lw_at lw_m11 12 rfl) rfl
theorem q2516 : (Jvm.Cond.selects "FastPlane$Estimate" ({ cls := "FastPlane$Fact", name := "counts", desc := "(I)Z" } : Jvm.MethodName) ({ cls := "FastPlane$Fact", name := "counts", desc := "(I)Z" } : Jvm.MethodName)) ∈ lw_all := lw_g (lw_at lw_m11 13 rfl) rfl
theorem q2517 : (Jvm.Cond.selects "FastPlane$Show" ({ cls := "FastPlane$Fact", name := "counts", desc := "(I)Z" } : Jvm.MethodName) ({ cls := "FastPlane$Fact", name := "counts", desc := "(I)Z" } : Jvm.MethodName)) ∈ lw_all := lw_g (lw_at lw_m11 14 rfl) rfl
/-- the decode row of a method's own bytes -/
theorem dq {A B : ByteArray} {pc : Nat} {r : Except DecodeError (Instr × Nat)} (h : A = B) (hd : decode B pc = r) : decode A pc = r := by rw [h]; exact hd
theorem hp_none {M pc : Nat} (h : hnd M = []) : HpOK M pc none := by
  intro q hq
  rw [h] at hq
  exact nomatch hq
/-- all blocks of a method -/
def AllB (M : Nat) : List (Nat × BLK) → Prop
  | [] => True
  | q :: l => SimL M q.2.2.2 q.2.1 q.2.2.1 q.1 ∧ AllB M l

theorem na24 : NArg (mnm 24) 0 := by unfold NArg; decide +kernel
theorem nh24 : NotMH (mnm 24) := ⟨by decide +kernel, by decide +kernel⟩
theorem cw24 : CodeW 24 := ⟨q104, by decide, Or.inl ⟨q151, rfl⟩⟩
theorem na138 : NArg (mnm 138) 0 := by unfold NArg; decide +kernel
theorem nh138 : NotMH (mnm 138) := ⟨by decide +kernel, by decide +kernel⟩
theorem cw138 : CodeW 138 := ⟨q110, by decide, Or.inl ⟨q1742, rfl⟩⟩
theorem cw19 : CodeW 19 := ⟨q104, by decide, Or.inl ⟨q369, rfl⟩⟩
theorem se2 : ∀ k, anyK (rck 2) k = true → Jvm.Cond.selects (knm k) ⟨"FastPlane", "feed", "(IIIII)I"⟩ (mnm 19) ∈ lw_all := by
  intro k h
  have hm : k ∈ [1] := anyK_mem h
  simp only [List.mem_cons, List.not_mem_nil, or_false] at hm
  subst hm
  exact q368
theorem na19 : NArg (mnm 19) 5 := by unfold NArg; decide +kernel
theorem nh19 : NotMH (mnm 19) := ⟨by decide +kernel, by decide +kernel⟩
theorem cw126 : CodeW 126 := ⟨q110, by decide, Or.inl ⟨q2495, rfl⟩⟩
theorem se3 : ∀ k, anyK (rck 3) k = true → Jvm.Cond.selects (knm k) ⟨"FastPlaneModel", "feed", "(IIIII)I"⟩ (mnm 126) ∈ lw_all := by
  intro k h
  have hm : k ∈ [23] := anyK_mem h
  simp only [List.mem_cons, List.not_mem_nil, or_false] at hm
  subst hm
  exact q2494
theorem na126 : NArg (mnm 126) 5 := by unfold NArg; decide +kernel
theorem nh126 : NotMH (mnm 126) := ⟨by decide +kernel, by decide +kernel⟩
theorem cw15 : CodeW 15 := ⟨q104, by decide, Or.inl ⟨q373, rfl⟩⟩
theorem se4 : ∀ k, anyK (rck 4) k = true → Jvm.Cond.selects (knm k) ⟨"FastPlane", "end", "(I)I"⟩ (mnm 15) ∈ lw_all := by
  intro k h
  have hm : k ∈ [1] := anyK_mem h
  simp only [List.mem_cons, List.not_mem_nil, or_false] at hm
  subst hm
  exact q372
theorem na15 : NArg (mnm 15) 1 := by unfold NArg; decide +kernel
theorem nh15 : NotMH (mnm 15) := ⟨by decide +kernel, by decide +kernel⟩
theorem cw121 : CodeW 121 := ⟨q110, by decide, Or.inl ⟨q2499, rfl⟩⟩
theorem se5 : ∀ k, anyK (rck 5) k = true → Jvm.Cond.selects (knm k) ⟨"FastPlaneModel", "end", "(I)I"⟩ (mnm 121) ∈ lw_all := by
  intro k h
  have hm : k ∈ [23] := anyK_mem h
  simp only [List.mem_cons, List.not_mem_nil, or_false] at hm
  subst hm
  exact q2498
theorem na121 : NArg (mnm 121) 1 := by unfold NArg; decide +kernel
theorem nh121 : NotMH (mnm 121) := ⟨by decide +kernel, by decide +kernel⟩
theorem cw39 : CodeW 39 := ⟨q104, by decide, Or.inr q377⟩
theorem se6 : ∀ k, anyK (rck 6) k = true → Jvm.Cond.selects (knm k) ⟨"FastPlane", "machine", "()I"⟩ (mnm 39) ∈ lw_all := by
  intro k h
  have hm : k ∈ [1] := anyK_mem h
  simp only [List.mem_cons, List.not_mem_nil, or_false] at hm
  subst hm
  exact q376
theorem na39 : NArg (mnm 39) 0 := by unfold NArg; decide +kernel
theorem nh39 : NotMH (mnm 39) := ⟨by decide +kernel, by decide +kernel⟩
theorem cw161 : CodeW 161 := ⟨q110, by decide, Or.inl ⟨q2033, rfl⟩⟩
theorem se7 : ∀ k, anyK (rck 7) k = true → Jvm.Cond.selects (knm k) ⟨"FastPlaneModel", "machine", "()I"⟩ (mnm 161) ∈ lw_all := by
  intro k h
  have hm : k ∈ [23] := anyK_mem h
  simp only [List.mem_cons, List.not_mem_nil, or_false] at hm
  subst hm
  exact q2032
theorem na161 : NArg (mnm 161) 0 := by unfold NArg; decide +kernel
theorem nh161 : NotMH (mnm 161) := ⟨by decide +kernel, by decide +kernel⟩
theorem cw66 : CodeW 66 := ⟨q104, by decide, Or.inr q1126⟩
theorem se8 : ∀ k, anyK (rck 8) k = true → Jvm.Cond.selects (knm k) ⟨"FastPlane", "treaty", "(I)I"⟩ (mnm 66) ∈ lw_all := by
  intro k h
  have hm : k ∈ [1] := anyK_mem h
  simp only [List.mem_cons, List.not_mem_nil, or_false] at hm
  subst hm
  exact q1125
theorem na66 : NArg (mnm 66) 1 := by unfold NArg; decide +kernel
theorem nh66 : NotMH (mnm 66) := ⟨by decide +kernel, by decide +kernel⟩
theorem cw207 : CodeW 207 := ⟨q110, by decide, Or.inl ⟨q2211, rfl⟩⟩
theorem se9 : ∀ k, anyK (rck 9) k = true → Jvm.Cond.selects (knm k) ⟨"FastPlaneModel", "treaty", "(I)I"⟩ (mnm 207) ∈ lw_all := by
  intro k h
  have hm : k ∈ [23] := anyK_mem h
  simp only [List.mem_cons, List.not_mem_nil, or_false] at hm
  subst hm
  exact q2210
theorem na207 : NArg (mnm 207) 1 := by unfold NArg; decide +kernel
theorem nh207 : NotMH (mnm 207) := ⟨by decide +kernel, by decide +kernel⟩
theorem cw18 : CodeW 18 := ⟨q104, by decide, Or.inl ⟨q1346, rfl⟩⟩
theorem se10 : ∀ k, anyK (rck 10) k = true → Jvm.Cond.selects (knm k) ⟨"FastPlane", "fault", "(I)I"⟩ (mnm 18) ∈ lw_all := by
  intro k h
  have hm : k ∈ [1] := anyK_mem h
  simp only [List.mem_cons, List.not_mem_nil, or_false] at hm
  subst hm
  exact q1345
theorem na18 : NArg (mnm 18) 1 := by unfold NArg; decide +kernel
theorem nh18 : NotMH (mnm 18) := ⟨by decide +kernel, by decide +kernel⟩
theorem cw125 : CodeW 125 := ⟨q110, by decide, Or.inl ⟨q2155, rfl⟩⟩
theorem se11 : ∀ k, anyK (rck 11) k = true → Jvm.Cond.selects (knm k) ⟨"FastPlaneModel", "fault", "(I)I"⟩ (mnm 125) ∈ lw_all := by
  intro k h
  have hm : k ∈ [23] := anyK_mem h
  simp only [List.mem_cons, List.not_mem_nil, or_false] at hm
  subst hm
  exact q2154
theorem na125 : NArg (mnm 125) 1 := by unfold NArg; decide +kernel
theorem nh125 : NotMH (mnm 125) := ⟨by decide +kernel, by decide +kernel⟩
theorem cw45 : CodeW 45 := ⟨q104, by decide, Or.inl ⟨q1350, rfl⟩⟩
theorem se12 : ∀ k, anyK (rck 12) k = true → Jvm.Cond.selects (knm k) ⟨"FastPlane", "mm", "(II)I"⟩ (mnm 45) ∈ lw_all := by
  intro k h
  have hm : k ∈ [1] := anyK_mem h
  simp only [List.mem_cons, List.not_mem_nil, or_false] at hm
  subst hm
  exact q1349
theorem na45 : NArg (mnm 45) 2 := by unfold NArg; decide +kernel
theorem nh45 : NotMH (mnm 45) := ⟨by decide +kernel, by decide +kernel⟩
theorem cw166 : CodeW 166 := ⟨q110, by decide, Or.inl ⟨q2159, rfl⟩⟩
theorem se13 : ∀ k, anyK (rck 13) k = true → Jvm.Cond.selects (knm k) ⟨"FastPlaneModel", "mm", "(II)I"⟩ (mnm 166) ∈ lw_all := by
  intro k h
  have hm : k ∈ [23] := anyK_mem h
  simp only [List.mem_cons, List.not_mem_nil, or_false] at hm
  subst hm
  exact q2158
theorem na166 : NArg (mnm 166) 2 := by unfold NArg; decide +kernel
theorem nh166 : NotMH (mnm 166) := ⟨by decide +kernel, by decide +kernel⟩
theorem cw12 : CodeW 12 := ⟨q104, by decide, Or.inl ⟨q1380, rfl⟩⟩
theorem se14 : ∀ k, anyK (rck 14) k = true → Jvm.Cond.selects (knm k) ⟨"FastPlane", "clash", "(I)I"⟩ (mnm 12) ∈ lw_all := by
  intro k h
  have hm : k ∈ [1] := anyK_mem h
  simp only [List.mem_cons, List.not_mem_nil, or_false] at hm
  subst hm
  exact q1379
theorem na12 : NArg (mnm 12) 1 := by unfold NArg; decide +kernel
theorem nh12 : NotMH (mnm 12) := ⟨by decide +kernel, by decide +kernel⟩
theorem cw116 : CodeW 116 := ⟨q110, by decide, Or.inl ⟨q2179, rfl⟩⟩
theorem se15 : ∀ k, anyK (rck 15) k = true → Jvm.Cond.selects (knm k) ⟨"FastPlaneModel", "clash", "(I)I"⟩ (mnm 116) ∈ lw_all := by
  intro k h
  have hm : k ∈ [23] := anyK_mem h
  simp only [List.mem_cons, List.not_mem_nil, or_false] at hm
  subst hm
  exact q2178
theorem na116 : NArg (mnm 116) 1 := by unfold NArg; decide +kernel
theorem nh116 : NotMH (mnm 116) := ⟨by decide +kernel, by decide +kernel⟩
theorem cw6 : CodeW 6 := ⟨q104, by decide, Or.inl ⟨q1393, rfl⟩⟩
theorem se16 : ∀ k, anyK (rck 16) k = true → Jvm.Cond.selects (knm k) ⟨"FastPlane", "breaks", "(I)I"⟩ (mnm 6) ∈ lw_all := by
  intro k h
  have hm : k ∈ [1] := anyK_mem h
  simp only [List.mem_cons, List.not_mem_nil, or_false] at hm
  subst hm
  exact q1392
theorem na6 : NArg (mnm 6) 1 := by unfold NArg; decide +kernel
theorem nh6 : NotMH (mnm 6) := ⟨by decide +kernel, by decide +kernel⟩
theorem cw113 : CodeW 113 := ⟨q110, by decide, Or.inl ⟨q2195, rfl⟩⟩
theorem se17 : ∀ k, anyK (rck 17) k = true → Jvm.Cond.selects (knm k) ⟨"FastPlaneModel", "breaks", "(I)I"⟩ (mnm 113) ∈ lw_all := by
  intro k h
  have hm : k ∈ [23] := anyK_mem h
  simp only [List.mem_cons, List.not_mem_nil, or_false] at hm
  subst hm
  exact q2194
theorem na113 : NArg (mnm 113) 1 := by unfold NArg; decide +kernel
theorem nh113 : NotMH (mnm 113) := ⟨by decide +kernel, by decide +kernel⟩
theorem cw44 : CodeW 44 := ⟨q104, by decide, Or.inl ⟨q1397, rfl⟩⟩
theorem se18 : ∀ k, anyK (rck 18) k = true → Jvm.Cond.selects (knm k) ⟨"FastPlane", "mend", "(I)I"⟩ (mnm 44) ∈ lw_all := by
  intro k h
  have hm : k ∈ [1] := anyK_mem h
  simp only [List.mem_cons, List.not_mem_nil, or_false] at hm
  subst hm
  exact q1396
theorem na44 : NArg (mnm 44) 1 := by unfold NArg; decide +kernel
theorem nh44 : NotMH (mnm 44) := ⟨by decide +kernel, by decide +kernel⟩
theorem cw164 : CodeW 164 := ⟨q110, by decide, Or.inl ⟨q2199, rfl⟩⟩
theorem se19 : ∀ k, anyK (rck 19) k = true → Jvm.Cond.selects (knm k) ⟨"FastPlaneModel", "mend", "(I)I"⟩ (mnm 164) ∈ lw_all := by
  intro k h
  have hm : k ∈ [23] := anyK_mem h
  simp only [List.mem_cons, List.not_mem_nil, or_false] at hm
  subst hm
  exact q2198
theorem na164 : NArg (mnm 164) 1 := by unfold NArg; decide +kernel
theorem nh164 : NotMH (mnm 164) := ⟨by decide +kernel, by decide +kernel⟩
theorem cw67 : CodeW 67 := ⟨q104, by decide, Or.inl ⟨q1411, rfl⟩⟩
theorem se20 : ∀ k, anyK (rck 20) k = true → Jvm.Cond.selects (knm k) ⟨"FastPlane", "unlike", "(IIZ)I"⟩ (mnm 67) ∈ lw_all := by
  intro k h
  have hm : k ∈ [1] := anyK_mem h
  simp only [List.mem_cons, List.not_mem_nil, or_false] at hm
  subst hm
  exact q1410
theorem na67 : NArg (mnm 67) 3 := by unfold NArg; decide +kernel
theorem nh67 : NotMH (mnm 67) := ⟨by decide +kernel, by decide +kernel⟩
theorem cw212 : CodeW 212 := ⟨q110, by decide, Or.inl ⟨q2258, rfl⟩⟩
theorem se21 : ∀ k, anyK (rck 21) k = true → Jvm.Cond.selects (knm k) ⟨"FastPlaneModel", "unlike", "(IIZ)I"⟩ (mnm 212) ∈ lw_all := by
  intro k h
  have hm : k ∈ [23] := anyK_mem h
  simp only [List.mem_cons, List.not_mem_nil, or_false] at hm
  subst hm
  exact q2257
theorem na212 : NArg (mnm 212) 3 := by unfold NArg; decide +kernel
theorem nh212 : NotMH (mnm 212) := ⟨by decide +kernel, by decide +kernel⟩
theorem cw11 : CodeW 11 := ⟨q104, by decide, Or.inl ⟨q1463, rfl⟩⟩
theorem se22 : ∀ k, anyK (rck 22) k = true → Jvm.Cond.selects (knm k) ⟨"FastPlane", "change", "(II)I"⟩ (mnm 11) ∈ lw_all := by
  intro k h
  have hm : k ∈ [1] := anyK_mem h
  simp only [List.mem_cons, List.not_mem_nil, or_false] at hm
  subst hm
  exact q1462
theorem na11 : NArg (mnm 11) 2 := by unfold NArg; decide +kernel
theorem nh11 : NotMH (mnm 11) := ⟨by decide +kernel, by decide +kernel⟩
theorem cw115 : CodeW 115 := ⟨q110, by decide, Or.inl ⟨q2285, rfl⟩⟩
theorem se23 : ∀ k, anyK (rck 23) k = true → Jvm.Cond.selects (knm k) ⟨"FastPlaneModel", "change", "(II)I"⟩ (mnm 115) ∈ lw_all := by
  intro k h
  have hm : k ∈ [23] := anyK_mem h
  simp only [List.mem_cons, List.not_mem_nil, or_false] at hm
  subst hm
  exact q2284
theorem na115 : NArg (mnm 115) 2 := by unfold NArg; decide +kernel
theorem nh115 : NotMH (mnm 115) := ⟨by decide +kernel, by decide +kernel⟩
theorem cw17 : CodeW 17 := ⟨q104, by decide, Or.inl ⟨q1503, rfl⟩⟩
theorem se24 : ∀ k, anyK (rck 24) k = true → Jvm.Cond.selects (knm k) ⟨"FastPlane", "estimate", "(II)I"⟩ (mnm 17) ∈ lw_all := by
  intro k h
  have hm : k ∈ [1] := anyK_mem h
  simp only [List.mem_cons, List.not_mem_nil, or_false] at hm
  subst hm
  exact q1502
theorem na17 : NArg (mnm 17) 2 := by unfold NArg; decide +kernel
theorem nh17 : NotMH (mnm 17) := ⟨by decide +kernel, by decide +kernel⟩
theorem cw123 : CodeW 123 := ⟨q110, by decide, Or.inl ⟨q2296, rfl⟩⟩
theorem se25 : ∀ k, anyK (rck 25) k = true → Jvm.Cond.selects (knm k) ⟨"FastPlaneModel", "estimate", "(II)I"⟩ (mnm 123) ∈ lw_all := by
  intro k h
  have hm : k ∈ [23] := anyK_mem h
  simp only [List.mem_cons, List.not_mem_nil, or_false] at hm
  subst hm
  exact q2295
theorem na123 : NArg (mnm 123) 2 := by unfold NArg; decide +kernel
theorem nh123 : NotMH (mnm 123) := ⟨by decide +kernel, by decide +kernel⟩
theorem cw61 : CodeW 61 := ⟨q104, by decide, Or.inl ⟨q1522, rfl⟩⟩
theorem se26 : ∀ k, anyK (rck 26) k = true → Jvm.Cond.selects (knm k) ⟨"FastPlane", "show", "(II)I"⟩ (mnm 61) ∈ lw_all := by
  intro k h
  have hm : k ∈ [1] := anyK_mem h
  simp only [List.mem_cons, List.not_mem_nil, or_false] at hm
  subst hm
  exact q1521
theorem na61 : NArg (mnm 61) 2 := by unfold NArg; decide +kernel
theorem nh61 : NotMH (mnm 61) := ⟨by decide +kernel, by decide +kernel⟩
theorem cw196 : CodeW 196 := ⟨q110, by decide, Or.inl ⟨q2301, rfl⟩⟩
theorem se27 : ∀ k, anyK (rck 27) k = true → Jvm.Cond.selects (knm k) ⟨"FastPlaneModel", "show", "(II)I"⟩ (mnm 196) ∈ lw_all := by
  intro k h
  have hm : k ∈ [23] := anyK_mem h
  simp only [List.mem_cons, List.not_mem_nil, or_false] at hm
  subst hm
  exact q2300
theorem na196 : NArg (mnm 196) 2 := by unfold NArg; decide +kernel
theorem nh196 : NotMH (mnm 196) := ⟨by decide +kernel, by decide +kernel⟩
theorem cw68 : CodeW 68 := ⟨q104, by decide, Or.inl ⟨q1540, rfl⟩⟩
theorem se28 : ∀ k, anyK (rck 28) k = true → Jvm.Cond.selects (knm k) ⟨"FastPlane", "untell", "(I)Z"⟩ (mnm 68) ∈ lw_all := by
  intro k h
  have hm : k ∈ [1] := anyK_mem h
  simp only [List.mem_cons, List.not_mem_nil, or_false] at hm
  subst hm
  exact q1539
theorem na68 : NArg (mnm 68) 1 := by unfold NArg; decide +kernel
theorem nh68 : NotMH (mnm 68) := ⟨by decide +kernel, by decide +kernel⟩
theorem cw213 : CodeW 213 := ⟨q110, by decide, Or.inl ⟨q2305, rfl⟩⟩
theorem se29 : ∀ k, anyK (rck 29) k = true → Jvm.Cond.selects (knm k) ⟨"FastPlaneModel", "untell", "(I)Z"⟩ (mnm 213) ∈ lw_all := by
  intro k h
  have hm : k ∈ [23] := anyK_mem h
  simp only [List.mem_cons, List.not_mem_nil, or_false] at hm
  subst hm
  exact q2304
theorem na213 : NArg (mnm 213) 1 := by unfold NArg; decide +kernel
theorem nh213 : NotMH (mnm 213) := ⟨by decide +kernel, by decide +kernel⟩
theorem cw36 : CodeW 36 := ⟨q104, by decide, Or.inl ⟨q1552, rfl⟩⟩
theorem se30 : ∀ k, anyK (rck 30) k = true → Jvm.Cond.selects (knm k) ⟨"FastPlane", "later", "(I)I"⟩ (mnm 36) ∈ lw_all := by
  intro k h
  have hm : k ∈ [1] := anyK_mem h
  simp only [List.mem_cons, List.not_mem_nil, or_false] at hm
  subst hm
  exact q1551
theorem na36 : NArg (mnm 36) 1 := by unfold NArg; decide +kernel
theorem nh36 : NotMH (mnm 36) := ⟨by decide +kernel, by decide +kernel⟩
theorem cw157 : CodeW 157 := ⟨q110, by decide, Or.inl ⟨q2309, rfl⟩⟩
theorem se31 : ∀ k, anyK (rck 31) k = true → Jvm.Cond.selects (knm k) ⟨"FastPlaneModel", "later", "(I)I"⟩ (mnm 157) ∈ lw_all := by
  intro k h
  have hm : k ∈ [23] := anyK_mem h
  simp only [List.mem_cons, List.not_mem_nil, or_false] at hm
  subst hm
  exact q2308
theorem na157 : NArg (mnm 157) 1 := by unfold NArg; decide +kernel
theorem nh157 : NotMH (mnm 157) := ⟨by decide +kernel, by decide +kernel⟩
theorem cw47 : CodeW 47 := ⟨q104, by decide, Or.inl ⟨q1557, rfl⟩⟩
theorem se32 : ∀ k, anyK (rck 32) k = true → Jvm.Cond.selects (knm k) ⟨"FastPlane", "moves", "(II)I"⟩ (mnm 47) ∈ lw_all := by
  intro k h
  have hm : k ∈ [1] := anyK_mem h
  simp only [List.mem_cons, List.not_mem_nil, or_false] at hm
  subst hm
  exact q1556
theorem na47 : NArg (mnm 47) 2 := by unfold NArg; decide +kernel
theorem nh47 : NotMH (mnm 47) := ⟨by decide +kernel, by decide +kernel⟩
theorem cw168 : CodeW 168 := ⟨q110, by decide, Or.inl ⟨q2314, rfl⟩⟩
theorem se33 : ∀ k, anyK (rck 33) k = true → Jvm.Cond.selects (knm k) ⟨"FastPlaneModel", "moves", "(II)I"⟩ (mnm 168) ∈ lw_all := by
  intro k h
  have hm : k ∈ [23] := anyK_mem h
  simp only [List.mem_cons, List.not_mem_nil, or_false] at hm
  subst hm
  exact q2313
theorem na168 : NArg (mnm 168) 2 := by unfold NArg; decide +kernel
theorem nh168 : NotMH (mnm 168) := ⟨by decide +kernel, by decide +kernel⟩
theorem cw13 : CodeW 13 := ⟨q104, by decide, Or.inl ⟨q1573, rfl⟩⟩
theorem se34 : ∀ k, anyK (rck 34) k = true → Jvm.Cond.selects (knm k) ⟨"FastPlane", "cost", "(II)I"⟩ (mnm 13) ∈ lw_all := by
  intro k h
  have hm : k ∈ [1] := anyK_mem h
  simp only [List.mem_cons, List.not_mem_nil, or_false] at hm
  subst hm
  exact q1572
theorem na13 : NArg (mnm 13) 2 := by unfold NArg; decide +kernel
theorem nh13 : NotMH (mnm 13) := ⟨by decide +kernel, by decide +kernel⟩
theorem cw117 : CodeW 117 := ⟨q110, by decide, Or.inl ⟨q2327, rfl⟩⟩
theorem se35 : ∀ k, anyK (rck 35) k = true → Jvm.Cond.selects (knm k) ⟨"FastPlaneModel", "cost", "(II)I"⟩ (mnm 117) ∈ lw_all := by
  intro k h
  have hm : k ∈ [23] := anyK_mem h
  simp only [List.mem_cons, List.not_mem_nil, or_false] at hm
  subst hm
  exact q2326
theorem na117 : NArg (mnm 117) 2 := by unfold NArg; decide +kernel
theorem nh117 : NotMH (mnm 117) := ⟨by decide +kernel, by decide +kernel⟩
theorem cw51 : CodeW 51 := ⟨q104, by decide, Or.inl ⟨q1581, rfl⟩⟩
theorem se36 : ∀ k, anyK (rck 36) k = true → Jvm.Cond.selects (knm k) ⟨"FastPlane", "pays", "(III)I"⟩ (mnm 51) ∈ lw_all := by
  intro k h
  have hm : k ∈ [1] := anyK_mem h
  simp only [List.mem_cons, List.not_mem_nil, or_false] at hm
  subst hm
  exact q1580
theorem na51 : NArg (mnm 51) 3 := by unfold NArg; decide +kernel
theorem nh51 : NotMH (mnm 51) := ⟨by decide +kernel, by decide +kernel⟩
theorem cw177 : CodeW 177 := ⟨q110, by decide, Or.inl ⟨q2335, rfl⟩⟩
theorem se37 : ∀ k, anyK (rck 37) k = true → Jvm.Cond.selects (knm k) ⟨"FastPlaneModel", "pays", "(III)I"⟩ (mnm 177) ∈ lw_all := by
  intro k h
  have hm : k ∈ [23] := anyK_mem h
  simp only [List.mem_cons, List.not_mem_nil, or_false] at hm
  subst hm
  exact q2334
theorem na177 : NArg (mnm 177) 3 := by unfold NArg; decide +kernel
theorem nh177 : NotMH (mnm 177) := ⟨by decide +kernel, by decide +kernel⟩
theorem cw49 : CodeW 49 := ⟨q104, by decide, Or.inl ⟨q1591, rfl⟩⟩
theorem se38 : ∀ k, anyK (rck 38) k = true → Jvm.Cond.selects (knm k) ⟨"FastPlane", "over", "(II)I"⟩ (mnm 49) ∈ lw_all := by
  intro k h
  have hm : k ∈ [1] := anyK_mem h
  simp only [List.mem_cons, List.not_mem_nil, or_false] at hm
  subst hm
  exact q1590
theorem na49 : NArg (mnm 49) 2 := by unfold NArg; decide +kernel
theorem nh49 : NotMH (mnm 49) := ⟨by decide +kernel, by decide +kernel⟩
theorem cw173 : CodeW 173 := ⟨q110, by decide, Or.inl ⟨q2339, rfl⟩⟩
theorem se39 : ∀ k, anyK (rck 39) k = true → Jvm.Cond.selects (knm k) ⟨"FastPlaneModel", "over", "(II)I"⟩ (mnm 173) ∈ lw_all := by
  intro k h
  have hm : k ∈ [23] := anyK_mem h
  simp only [List.mem_cons, List.not_mem_nil, or_false] at hm
  subst hm
  exact q2338
theorem na173 : NArg (mnm 173) 2 := by unfold NArg; decide +kernel
theorem nh173 : NotMH (mnm 173) := ⟨by decide +kernel, by decide +kernel⟩
theorem cw38 : CodeW 38 := ⟨q104, by decide, Or.inl ⟨q1602, rfl⟩⟩
theorem se40 : ∀ k, anyK (rck 40) k = true → Jvm.Cond.selects (knm k) ⟨"FastPlane", "leave", "(III)I"⟩ (mnm 38) ∈ lw_all := by
  intro k h
  have hm : k ∈ [1] := anyK_mem h
  simp only [List.mem_cons, List.not_mem_nil, or_false] at hm
  subst hm
  exact q1601
theorem na38 : NArg (mnm 38) 3 := by unfold NArg; decide +kernel
theorem nh38 : NotMH (mnm 38) := ⟨by decide +kernel, by decide +kernel⟩
theorem cw159 : CodeW 159 := ⟨q110, by decide, Or.inl ⟨q2347, rfl⟩⟩
theorem se41 : ∀ k, anyK (rck 41) k = true → Jvm.Cond.selects (knm k) ⟨"FastPlaneModel", "leave", "(III)I"⟩ (mnm 159) ∈ lw_all := by
  intro k h
  have hm : k ∈ [23] := anyK_mem h
  simp only [List.mem_cons, List.not_mem_nil, or_false] at hm
  subst hm
  exact q2346
theorem na159 : NArg (mnm 159) 3 := by unfold NArg; decide +kernel
theorem nh159 : NotMH (mnm 159) := ⟨by decide +kernel, by decide +kernel⟩
theorem cw5 : CodeW 5 := ⟨q104, by decide, Or.inl ⟨q1606, rfl⟩⟩
theorem se42 : ∀ k, anyK (rck 42) k = true → Jvm.Cond.selects (knm k) ⟨"FastPlane", "bounds", "(II)I"⟩ (mnm 5) ∈ lw_all := by
  intro k h
  have hm : k ∈ [1] := anyK_mem h
  simp only [List.mem_cons, List.not_mem_nil, or_false] at hm
  subst hm
  exact q1605
theorem na5 : NArg (mnm 5) 2 := by unfold NArg; decide +kernel
theorem nh5 : NotMH (mnm 5) := ⟨by decide +kernel, by decide +kernel⟩
theorem cw112 : CodeW 112 := ⟨q110, by decide, Or.inl ⟨q2351, rfl⟩⟩
theorem se43 : ∀ k, anyK (rck 43) k = true → Jvm.Cond.selects (knm k) ⟨"FastPlaneModel", "bounds", "(II)I"⟩ (mnm 112) ∈ lw_all := by
  intro k h
  have hm : k ∈ [23] := anyK_mem h
  simp only [List.mem_cons, List.not_mem_nil, or_false] at hm
  subst hm
  exact q2350
theorem na112 : NArg (mnm 112) 2 := by unfold NArg; decide +kernel
theorem nh112 : NotMH (mnm 112) := ⟨by decide +kernel, by decide +kernel⟩
theorem cw33 : CodeW 33 := ⟨q104, by decide, Or.inl ⟨q1610, rfl⟩⟩
theorem se44 : ∀ k, anyK (rck 44) k = true → Jvm.Cond.selects (knm k) ⟨"FastPlane", "land", "()I"⟩ (mnm 33) ∈ lw_all := by
  intro k h
  have hm : k ∈ [1] := anyK_mem h
  simp only [List.mem_cons, List.not_mem_nil, or_false] at hm
  subst hm
  exact q1609
theorem na33 : NArg (mnm 33) 0 := by unfold NArg; decide +kernel
theorem nh33 : NotMH (mnm 33) := ⟨by decide +kernel, by decide +kernel⟩
theorem cw155 : CodeW 155 := ⟨q110, by decide, Or.inl ⟨q2355, rfl⟩⟩
theorem se45 : ∀ k, anyK (rck 45) k = true → Jvm.Cond.selects (knm k) ⟨"FastPlaneModel", "land", "()I"⟩ (mnm 155) ∈ lw_all := by
  intro k h
  have hm : k ∈ [23] := anyK_mem h
  simp only [List.mem_cons, List.not_mem_nil, or_false] at hm
  subst hm
  exact q2354
theorem na155 : NArg (mnm 155) 0 := by unfold NArg; decide +kernel
theorem nh155 : NotMH (mnm 155) := ⟨by decide +kernel, by decide +kernel⟩
theorem cw53 : CodeW 53 := ⟨q104, by decide, Or.inl ⟨q1614, rfl⟩⟩
theorem se46 : ∀ k, anyK (rck 46) k = true → Jvm.Cond.selects (knm k) ⟨"FastPlane", "pump", "(I)Z"⟩ (mnm 53) ∈ lw_all := by
  intro k h
  have hm : k ∈ [1] := anyK_mem h
  simp only [List.mem_cons, List.not_mem_nil, or_false] at hm
  subst hm
  exact q1613
theorem na53 : NArg (mnm 53) 1 := by unfold NArg; decide +kernel
theorem nh53 : NotMH (mnm 53) := ⟨by decide +kernel, by decide +kernel⟩
theorem cw180 : CodeW 180 := ⟨q110, by decide, Or.inl ⟨q2359, rfl⟩⟩
theorem se47 : ∀ k, anyK (rck 47) k = true → Jvm.Cond.selects (knm k) ⟨"FastPlaneModel", "pump", "(I)Z"⟩ (mnm 180) ∈ lw_all := by
  intro k h
  have hm : k ∈ [23] := anyK_mem h
  simp only [List.mem_cons, List.not_mem_nil, or_false] at hm
  subst hm
  exact q2358
theorem na180 : NArg (mnm 180) 1 := by unfold NArg; decide +kernel
theorem nh180 : NotMH (mnm 180) := ⟨by decide +kernel, by decide +kernel⟩
theorem cw52 : CodeW 52 := ⟨q104, by decide, Or.inl ⟨q1618, rfl⟩⟩
theorem se48 : ∀ k, anyK (rck 48) k = true → Jvm.Cond.selects (knm k) ⟨"FastPlane", "plan", "(III)I"⟩ (mnm 52) ∈ lw_all := by
  intro k h
  have hm : k ∈ [1] := anyK_mem h
  simp only [List.mem_cons, List.not_mem_nil, or_false] at hm
  subst hm
  exact q1617
theorem na52 : NArg (mnm 52) 3 := by unfold NArg; decide +kernel
theorem nh52 : NotMH (mnm 52) := ⟨by decide +kernel, by decide +kernel⟩
theorem cw179 : CodeW 179 := ⟨q110, by decide, Or.inl ⟨q2363, rfl⟩⟩
theorem se49 : ∀ k, anyK (rck 49) k = true → Jvm.Cond.selects (knm k) ⟨"FastPlaneModel", "plan", "(III)I"⟩ (mnm 179) ∈ lw_all := by
  intro k h
  have hm : k ∈ [23] := anyK_mem h
  simp only [List.mem_cons, List.not_mem_nil, or_false] at hm
  subst hm
  exact q2362
theorem na179 : NArg (mnm 179) 3 := by unfold NArg; decide +kernel
theorem nh179 : NotMH (mnm 179) := ⟨by decide +kernel, by decide +kernel⟩
theorem cw46 : CodeW 46 := ⟨q104, by decide, Or.inl ⟨q1641, rfl⟩⟩
theorem se50 : ∀ k, anyK (rck 50) k = true → Jvm.Cond.selects (knm k) ⟨"FastPlane", "move", "(IIII)I"⟩ (mnm 46) ∈ lw_all := by
  intro k h
  have hm : k ∈ [1] := anyK_mem h
  simp only [List.mem_cons, List.not_mem_nil, or_false] at hm
  subst hm
  exact q1640
theorem na46 : NArg (mnm 46) 4 := by unfold NArg; decide +kernel
theorem nh46 : NotMH (mnm 46) := ⟨by decide +kernel, by decide +kernel⟩
theorem cw167 : CodeW 167 := ⟨q110, by decide, Or.inl ⟨q2399, rfl⟩⟩
theorem se51 : ∀ k, anyK (rck 51) k = true → Jvm.Cond.selects (knm k) ⟨"FastPlaneModel", "move", "(IIII)I"⟩ (mnm 167) ∈ lw_all := by
  intro k h
  have hm : k ∈ [23] := anyK_mem h
  simp only [List.mem_cons, List.not_mem_nil, or_false] at hm
  subst hm
  exact q2398
theorem na167 : NArg (mnm 167) 4 := by unfold NArg; decide +kernel
theorem nh167 : NotMH (mnm 167) := ⟨by decide +kernel, by decide +kernel⟩
theorem cw62 : CodeW 62 := ⟨q104, by decide, Or.inl ⟨q1646, rfl⟩⟩
theorem se52 : ∀ k, anyK (rck 52) k = true → Jvm.Cond.selects (knm k) ⟨"FastPlane", "soonest", "(IIIIII)I"⟩ (mnm 62) ∈ lw_all := by
  intro k h
  have hm : k ∈ [1] := anyK_mem h
  simp only [List.mem_cons, List.not_mem_nil, or_false] at hm
  subst hm
  exact q1645
theorem na62 : NArg (mnm 62) 6 := by unfold NArg; decide +kernel
theorem nh62 : NotMH (mnm 62) := ⟨by decide +kernel, by decide +kernel⟩
theorem cw198 : CodeW 198 := ⟨q110, by decide, Or.inl ⟨q2403, rfl⟩⟩
theorem se53 : ∀ k, anyK (rck 53) k = true → Jvm.Cond.selects (knm k) ⟨"FastPlaneModel", "soonest", "(IIIIII)I"⟩ (mnm 198) ∈ lw_all := by
  intro k h
  have hm : k ∈ [23] := anyK_mem h
  simp only [List.mem_cons, List.not_mem_nil, or_false] at hm
  subst hm
  exact q2402
theorem na198 : NArg (mnm 198) 6 := by unfold NArg; decide +kernel
theorem nh198 : NotMH (mnm 198) := ⟨by decide +kernel, by decide +kernel⟩
theorem cw2 : CodeW 2 := ⟨q104, by decide, Or.inl ⟨q1657, rfl⟩⟩
theorem se54 : ∀ k, anyK (rck 54) k = true → Jvm.Cond.selects (knm k) ⟨"FastPlane", "airline", "(II)I"⟩ (mnm 2) ∈ lw_all := by
  intro k h
  have hm : k ∈ [1] := anyK_mem h
  simp only [List.mem_cons, List.not_mem_nil, or_false] at hm
  subst hm
  exact q1656
theorem na2 : NArg (mnm 2) 2 := by unfold NArg; decide +kernel
theorem nh2 : NotMH (mnm 2) := ⟨by decide +kernel, by decide +kernel⟩
theorem cw108 : CodeW 108 := ⟨q110, by decide, Or.inl ⟨q2411, rfl⟩⟩
theorem se55 : ∀ k, anyK (rck 55) k = true → Jvm.Cond.selects (knm k) ⟨"FastPlaneModel", "airline", "(II)I"⟩ (mnm 108) ∈ lw_all := by
  intro k h
  have hm : k ∈ [23] := anyK_mem h
  simp only [List.mem_cons, List.not_mem_nil, or_false] at hm
  subst hm
  exact q2410
theorem na108 : NArg (mnm 108) 2 := by unfold NArg; decide +kernel
theorem nh108 : NotMH (mnm 108) := ⟨by decide +kernel, by decide +kernel⟩
theorem cw23 : CodeW 23 := ⟨q104, by decide, Or.inl ⟨q1661, rfl⟩⟩
theorem se56 : ∀ k, anyK (rck 56) k = true → Jvm.Cond.selects (knm k) ⟨"FastPlane", "hold", "(III)I"⟩ (mnm 23) ∈ lw_all := by
  intro k h
  have hm : k ∈ [1] := anyK_mem h
  simp only [List.mem_cons, List.not_mem_nil, or_false] at hm
  subst hm
  exact q1660
theorem na23 : NArg (mnm 23) 3 := by unfold NArg; decide +kernel
theorem nh23 : NotMH (mnm 23) := ⟨by decide +kernel, by decide +kernel⟩
theorem cw137 : CodeW 137 := ⟨q110, by decide, Or.inl ⟨q2415, rfl⟩⟩
theorem se57 : ∀ k, anyK (rck 57) k = true → Jvm.Cond.selects (knm k) ⟨"FastPlaneModel", "hold", "(III)I"⟩ (mnm 137) ∈ lw_all := by
  intro k h
  have hm : k ∈ [23] := anyK_mem h
  simp only [List.mem_cons, List.not_mem_nil, or_false] at hm
  subst hm
  exact q2414
theorem na137 : NArg (mnm 137) 3 := by unfold NArg; decide +kernel
theorem nh137 : NotMH (mnm 137) := ⟨by decide +kernel, by decide +kernel⟩
theorem cw34 : CodeW 34 := ⟨q104, by decide, Or.inl ⟨q1676, rfl⟩⟩
theorem se58 : ∀ k, anyK (rck 58) k = true → Jvm.Cond.selects (knm k) ⟨"FastPlane", "lapse", "(IIII)I"⟩ (mnm 34) ∈ lw_all := by
  intro k h
  have hm : k ∈ [1] := anyK_mem h
  simp only [List.mem_cons, List.not_mem_nil, or_false] at hm
  subst hm
  exact q1675
theorem na34 : NArg (mnm 34) 4 := by unfold NArg; decide +kernel
theorem nh34 : NotMH (mnm 34) := ⟨by decide +kernel, by decide +kernel⟩
theorem cw156 : CodeW 156 := ⟨q110, by decide, Or.inl ⟨q2423, rfl⟩⟩
theorem se59 : ∀ k, anyK (rck 59) k = true → Jvm.Cond.selects (knm k) ⟨"FastPlaneModel", "lapse", "(IIII)I"⟩ (mnm 156) ∈ lw_all := by
  intro k h
  have hm : k ∈ [23] := anyK_mem h
  simp only [List.mem_cons, List.not_mem_nil, or_false] at hm
  subst hm
  exact q2422
theorem na156 : NArg (mnm 156) 4 := by unfold NArg; decide +kernel
theorem nh156 : NotMH (mnm 156) := ⟨by decide +kernel, by decide +kernel⟩
theorem cw59 : CodeW 59 := ⟨q104, by decide, Or.inl ⟨q1680, rfl⟩⟩
theorem se60 : ∀ k, anyK (rck 60) k = true → Jvm.Cond.selects (knm k) ⟨"FastPlane", "shared", "(I)I"⟩ (mnm 59) ∈ lw_all := by
  intro k h
  have hm : k ∈ [1] := anyK_mem h
  simp only [List.mem_cons, List.not_mem_nil, or_false] at hm
  subst hm
  exact q1679
theorem na59 : NArg (mnm 59) 1 := by unfold NArg; decide +kernel
theorem nh59 : NotMH (mnm 59) := ⟨by decide +kernel, by decide +kernel⟩
theorem cw194 : CodeW 194 := ⟨q110, by decide, Or.inl ⟨q2428, rfl⟩⟩
theorem se61 : ∀ k, anyK (rck 61) k = true → Jvm.Cond.selects (knm k) ⟨"FastPlaneModel", "shared", "(I)I"⟩ (mnm 194) ∈ lw_all := by
  intro k h
  have hm : k ∈ [23] := anyK_mem h
  simp only [List.mem_cons, List.not_mem_nil, or_false] at hm
  subst hm
  exact q2427
theorem na194 : NArg (mnm 194) 1 := by unfold NArg; decide +kernel
theorem nh194 : NotMH (mnm 194) := ⟨by decide +kernel, by decide +kernel⟩
theorem cw40 : CodeW 40 := ⟨q104, by decide, Or.inl ⟨q1689, rfl⟩⟩
theorem se62 : ∀ k, anyK (rck 62) k = true → Jvm.Cond.selects (knm k) ⟨"FastPlane", "maker", "(II)I"⟩ (mnm 40) ∈ lw_all := by
  intro k h
  have hm : k ∈ [1] := anyK_mem h
  simp only [List.mem_cons, List.not_mem_nil, or_false] at hm
  subst hm
  exact q1688
theorem na40 : NArg (mnm 40) 2 := by unfold NArg; decide +kernel
theorem nh40 : NotMH (mnm 40) := ⟨by decide +kernel, by decide +kernel⟩
theorem cw162 : CodeW 162 := ⟨q110, by decide, Or.inl ⟨q2440, rfl⟩⟩
theorem se63 : ∀ k, anyK (rck 63) k = true → Jvm.Cond.selects (knm k) ⟨"FastPlaneModel", "maker", "(II)I"⟩ (mnm 162) ∈ lw_all := by
  intro k h
  have hm : k ∈ [23] := anyK_mem h
  simp only [List.mem_cons, List.not_mem_nil, or_false] at hm
  subst hm
  exact q2439
theorem na162 : NArg (mnm 162) 2 := by unfold NArg; decide +kernel
theorem nh162 : NotMH (mnm 162) := ⟨by decide +kernel, by decide +kernel⟩
theorem cw63 : CodeW 63 := ⟨q104, by decide, Or.inl ⟨q1694, rfl⟩⟩
theorem se64 : ∀ k, anyK (rck 64) k = true → Jvm.Cond.selects (knm k) ⟨"FastPlane", "stage", "(II)I"⟩ (mnm 63) ∈ lw_all := by
  intro k h
  have hm : k ∈ [1] := anyK_mem h
  simp only [List.mem_cons, List.not_mem_nil, or_false] at hm
  subst hm
  exact q1693
theorem na63 : NArg (mnm 63) 2 := by unfold NArg; decide +kernel
theorem nh63 : NotMH (mnm 63) := ⟨by decide +kernel, by decide +kernel⟩
theorem cw199 : CodeW 199 := ⟨q110, by decide, Or.inl ⟨q2445, rfl⟩⟩
theorem se65 : ∀ k, anyK (rck 65) k = true → Jvm.Cond.selects (knm k) ⟨"FastPlaneModel", "stage", "(II)I"⟩ (mnm 199) ∈ lw_all := by
  intro k h
  have hm : k ∈ [23] := anyK_mem h
  simp only [List.mem_cons, List.not_mem_nil, or_false] at hm
  subst hm
  exact q2444
theorem na199 : NArg (mnm 199) 2 := by unfold NArg; decide +kernel
theorem nh199 : NotMH (mnm 199) := ⟨by decide +kernel, by decide +kernel⟩
theorem cw22 : CodeW 22 := ⟨q104, by decide, Or.inl ⟨q1698, rfl⟩⟩
theorem se66 : ∀ k, anyK (rck 66) k = true → Jvm.Cond.selects (knm k) ⟨"FastPlane", "grant", "(II)Z"⟩ (mnm 22) ∈ lw_all := by
  intro k h
  have hm : k ∈ [1] := anyK_mem h
  simp only [List.mem_cons, List.not_mem_nil, or_false] at hm
  subst hm
  exact q1697
theorem na22 : NArg (mnm 22) 2 := by unfold NArg; decide +kernel
theorem nh22 : NotMH (mnm 22) := ⟨by decide +kernel, by decide +kernel⟩
theorem cw136 : CodeW 136 := ⟨q110, by decide, Or.inl ⟨q2449, rfl⟩⟩
theorem se67 : ∀ k, anyK (rck 67) k = true → Jvm.Cond.selects (knm k) ⟨"FastPlaneModel", "grant", "(II)Z"⟩ (mnm 136) ∈ lw_all := by
  intro k h
  have hm : k ∈ [23] := anyK_mem h
  simp only [List.mem_cons, List.not_mem_nil, or_false] at hm
  subst hm
  exact q2448
theorem na136 : NArg (mnm 136) 2 := by unfold NArg; decide +kernel
theorem nh136 : NotMH (mnm 136) := ⟨by decide +kernel, by decide +kernel⟩
theorem cw56 : CodeW 56 := ⟨q104, by decide, Or.inl ⟨q1702, rfl⟩⟩
theorem se68 : ∀ k, anyK (rck 68) k = true → Jvm.Cond.selects (knm k) ⟨"FastPlane", "safe", "(III)I"⟩ (mnm 56) ∈ lw_all := by
  intro k h
  have hm : k ∈ [1] := anyK_mem h
  simp only [List.mem_cons, List.not_mem_nil, or_false] at hm
  subst hm
  exact q1701
theorem na56 : NArg (mnm 56) 3 := by unfold NArg; decide +kernel
theorem nh56 : NotMH (mnm 56) := ⟨by decide +kernel, by decide +kernel⟩
theorem cw191 : CodeW 191 := ⟨q110, by decide, Or.inl ⟨q2453, rfl⟩⟩
theorem se69 : ∀ k, anyK (rck 69) k = true → Jvm.Cond.selects (knm k) ⟨"FastPlaneModel", "safe", "(III)I"⟩ (mnm 191) ∈ lw_all := by
  intro k h
  have hm : k ∈ [23] := anyK_mem h
  simp only [List.mem_cons, List.not_mem_nil, or_false] at hm
  subst hm
  exact q2452
theorem na191 : NArg (mnm 191) 3 := by unfold NArg; decide +kernel
theorem nh191 : NotMH (mnm 191) := ⟨by decide +kernel, by decide +kernel⟩
theorem cw4 : CodeW 4 := ⟨q104, by decide, Or.inl ⟨q1728, rfl⟩⟩
theorem se70 : ∀ k, anyK (rck 70) k = true → Jvm.Cond.selects (knm k) ⟨"FastPlane", "bears", "(II)I"⟩ (mnm 4) ∈ lw_all := by
  intro k h
  have hm : k ∈ [1] := anyK_mem h
  simp only [List.mem_cons, List.not_mem_nil, or_false] at hm
  subst hm
  exact q1727
theorem na4 : NArg (mnm 4) 2 := by unfold NArg; decide +kernel
theorem nh4 : NotMH (mnm 4) := ⟨by decide +kernel, by decide +kernel⟩
theorem cw109 : CodeW 109 := ⟨q110, by decide, Or.inl ⟨q2482, rfl⟩⟩
theorem se71 : ∀ k, anyK (rck 71) k = true → Jvm.Cond.selects (knm k) ⟨"FastPlaneModel", "bears", "(II)I"⟩ (mnm 109) ∈ lw_all := by
  intro k h
  have hm : k ∈ [23] := anyK_mem h
  simp only [List.mem_cons, List.not_mem_nil, or_false] at hm
  subst hm
  exact q2481
theorem na109 : NArg (mnm 109) 2 := by unfold NArg; decide +kernel
theorem nh109 : NotMH (mnm 109) := ⟨by decide +kernel, by decide +kernel⟩
theorem cw60 : CodeW 60 := ⟨q104, by decide, Or.inl ⟨q1732, rfl⟩⟩
theorem se72 : ∀ k, anyK (rck 72) k = true → Jvm.Cond.selects (knm k) ⟨"FastPlane", "should", "(III)I"⟩ (mnm 60) ∈ lw_all := by
  intro k h
  have hm : k ∈ [1] := anyK_mem h
  simp only [List.mem_cons, List.not_mem_nil, or_false] at hm
  subst hm
  exact q1731
theorem na60 : NArg (mnm 60) 3 := by unfold NArg; decide +kernel
theorem nh60 : NotMH (mnm 60) := ⟨by decide +kernel, by decide +kernel⟩
theorem cw195 : CodeW 195 := ⟨q110, by decide, Or.inl ⟨q2486, rfl⟩⟩
theorem se73 : ∀ k, anyK (rck 73) k = true → Jvm.Cond.selects (knm k) ⟨"FastPlaneModel", "should", "(III)I"⟩ (mnm 195) ∈ lw_all := by
  intro k h
  have hm : k ∈ [23] := anyK_mem h
  simp only [List.mem_cons, List.not_mem_nil, or_false] at hm
  subst hm
  exact q2485
theorem na195 : NArg (mnm 195) 3 := by unfold NArg; decide +kernel
theorem nh195 : NotMH (mnm 195) := ⟨by decide +kernel, by decide +kernel⟩
theorem cw1 : CodeW 1 := ⟨q104, by decide, Or.inl ⟨q1737, rfl⟩⟩
theorem se74 : ∀ k, anyK (rck 74) k = true → Jvm.Cond.selects (knm k) ⟨"FastPlane", "about", "(I)I"⟩ (mnm 1) ∈ lw_all := by
  intro k h
  have hm : k ∈ [1] := anyK_mem h
  simp only [List.mem_cons, List.not_mem_nil, or_false] at hm
  subst hm
  exact q1736
theorem na1 : NArg (mnm 1) 1 := by unfold NArg; decide +kernel
theorem nh1 : NotMH (mnm 1) := ⟨by decide +kernel, by decide +kernel⟩
theorem cw107 : CodeW 107 := ⟨q110, by decide, Or.inl ⟨q2491, rfl⟩⟩
theorem se75 : ∀ k, anyK (rck 75) k = true → Jvm.Cond.selects (knm k) ⟨"FastPlaneModel", "about", "(I)I"⟩ (mnm 107) ∈ lw_all := by
  intro k h
  have hm : k ∈ [23] := anyK_mem h
  simp only [List.mem_cons, List.not_mem_nil, or_false] at hm
  subst hm
  exact q2490
theorem na107 : NArg (mnm 107) 1 := by unfold NArg; decide +kernel
theorem nh107 : NotMH (mnm 107) := ⟨by decide +kernel, by decide +kernel⟩
theorem na244 : NArg (mnm 244) 0 := by unfold NArg; decide +kernel
theorem nh244 : NotMH (mnm 244) := ⟨by decide +kernel, by decide +kernel⟩
theorem cw244 : CodeW 244 := ⟨q106, by decide, Or.inl ⟨q171, rfl⟩⟩
theorem cw280 : CodeW 280 := ⟨q115, by decide, Or.inl ⟨q576, rfl⟩⟩
theorem na280 : NArg (mnm 280) 2 := by unfold NArg; decide +kernel
theorem nh280 : NotMH (mnm 280) := ⟨by decide +kernel, by decide +kernel⟩
theorem cw292 : CodeW 292 := ⟨q117, by decide, Or.inl ⟨q755, rfl⟩⟩
theorem na292 : NArg (mnm 292) 5 := by unfold NArg; decide +kernel
theorem nh292 : NotMH (mnm 292) := ⟨by decide +kernel, by decide +kernel⟩
theorem cw247 : CodeW 247 := ⟨q121, by decide, Or.inl ⟨q673, rfl⟩⟩
theorem na247 : NArg (mnm 247) 1 := by unfold NArg; decide +kernel
theorem nh247 : NotMH (mnm 247) := ⟨by decide +kernel, by decide +kernel⟩
theorem cw294 : CodeW 294 := ⟨q118, by decide, Or.inl ⟨q505, rfl⟩⟩
theorem na294 : NArg (mnm 294) 2 := by unfold NArg; decide +kernel
theorem nh294 : NotMH (mnm 294) := ⟨by decide +kernel, by decide +kernel⟩
theorem cw295 : CodeW 295 := ⟨q118, by decide, Or.inl ⟨q523, rfl⟩⟩
theorem na295 : NArg (mnm 295) 2 := by unfold NArg; decide +kernel
theorem nh295 : NotMH (mnm 295) := ⟨by decide +kernel, by decide +kernel⟩
theorem cw251 : CodeW 251 := ⟨q121, by decide, Or.inl ⟨q678, rfl⟩⟩
theorem na251 : NArg (mnm 251) 4 := by unfold NArg; decide +kernel
theorem nh251 : NotMH (mnm 251) := ⟨by decide +kernel, by decide +kernel⟩
theorem na254 : NArg (mnm 254) 4 := by unfold NArg; decide +kernel
theorem nh254 : NotMH (mnm 254) := ⟨by decide +kernel, by decide +kernel⟩
theorem cw254 : CodeW 254 := ⟨q124, by decide, Or.inl ⟨q858, rfl⟩⟩
theorem cw253 : CodeW 253 := ⟨q122, by decide, Or.inl ⟨q579, rfl⟩⟩
theorem na253 : NArg (mnm 253) 3 := by unfold NArg; decide +kernel
theorem nh253 : NotMH (mnm 253) := ⟨by decide +kernel, by decide +kernel⟩
theorem cw261 : CodeW 261 := ⟨q108, by decide, Or.inl ⟨q1005, rfl⟩⟩
theorem na261 : NArg (mnm 261) 3 := by unfold NArg; decide +kernel
theorem nh261 : NotMH (mnm 261) := ⟨by decide +kernel, by decide +kernel⟩
theorem cw265 : CodeW 265 := ⟨q108, by decide, Or.inl ⟨q1009, rfl⟩⟩
theorem na265 : NArg (mnm 265) 0 := by unfold NArg; decide +kernel
theorem nh265 : NotMH (mnm 265) := ⟨by decide +kernel, by decide +kernel⟩
theorem cw256 : CodeW 256 := ⟨q127, by decide, Or.inl ⟨q915, rfl⟩⟩
theorem na256 : NArg (mnm 256) 2 := by unfold NArg; decide +kernel
theorem nh256 : NotMH (mnm 256) := ⟨by decide +kernel, by decide +kernel⟩
theorem cw263 : CodeW 263 := ⟨q108, by decide, Or.inl ⟨q920, rfl⟩⟩
theorem se276 : ∀ k, anyK (rck 276) k = true → Jvm.Cond.selects (knm k) ⟨"java/util/ArrayList", "elementData", "(I)Ljava/lang/Object;"⟩ (mnm 263) ∈ lw_all := by
  intro k h
  have hm : k ∈ [3] := anyK_mem h
  simp only [List.mem_cons, List.not_mem_nil, or_false] at hm
  subst hm
  exact q919
theorem na263 : NArg (mnm 263) 1 := by unfold NArg; decide +kernel
theorem nh263 : NotMH (mnm 263) := ⟨by decide +kernel, by decide +kernel⟩
theorem cw266 : CodeW 266 := ⟨q108, by decide, Or.inl ⟨q1013, rfl⟩⟩
theorem na266 : NArg (mnm 266) 1 := by unfold NArg; decide +kernel
theorem nh266 : NotMH (mnm 266) := ⟨by decide +kernel, by decide +kernel⟩
theorem cw290 : CodeW 290 := ⟨q117, by decide, Or.inl ⟨q502, rfl⟩⟩
theorem na290 : NArg (mnm 290) 3 := by unfold NArg; decide +kernel
theorem nh290 : NotMH (mnm 290) := ⟨by decide +kernel, by decide +kernel⟩
theorem cw299 : CodeW 299 := ⟨q119, by decide, Or.inl ⟨q1019, rfl⟩⟩
theorem na299 : NArg (mnm 299) 2 := by unfold NArg; decide +kernel
theorem nh299 : NotMH (mnm 299) := ⟨by decide +kernel, by decide +kernel⟩
theorem na245 : NArg (mnm 245) 0 := by unfold NArg; decide +kernel
theorem nh245 : NotMH (mnm 245) := ⟨by decide +kernel, by decide +kernel⟩
theorem cw245 : CodeW 245 := ⟨q107, by decide, Or.inl ⟨q168, rfl⟩⟩
theorem cw270 : CodeW 270 := ⟨q113, by decide, Or.inl ⟨q495, rfl⟩⟩
theorem na270 : NArg (mnm 270) 1 := by unfold NArg; decide +kernel
theorem nh270 : NotMH (mnm 270) := ⟨by decide +kernel, by decide +kernel⟩
theorem cw273 : CodeW 273 := ⟨q113, by decide, Or.inl ⟨q531, rfl⟩⟩
theorem se282 : ∀ k, anyK (rck 282) k = true → Jvm.Cond.selects (knm k) ⟨"java/lang/AbstractStringBuilder", "isLatin1", "()Z"⟩ (mnm 273) ∈ lw_all := by
  intro k h
  have hm : k ∈ [6] := anyK_mem h
  simp only [List.mem_cons, List.not_mem_nil, or_false] at hm
  subst hm
  exact q530
theorem na273 : NArg (mnm 273) 0 := by unfold NArg; decide +kernel
theorem nh273 : NotMH (mnm 273) := ⟨by decide +kernel, by decide +kernel⟩
theorem cw246 : CodeW 246 := ⟨q121, by decide, Or.inl ⟨q534, rfl⟩⟩
theorem na246 : NArg (mnm 246) 1 := by unfold NArg; decide +kernel
theorem nh246 : NotMH (mnm 246) := ⟨by decide +kernel, by decide +kernel⟩
theorem cw269 : CodeW 269 := ⟨q113, by decide, Or.inl ⟨q491, rfl⟩⟩
theorem na269 : NArg (mnm 269) 1 := by unfold NArg; decide +kernel
theorem na272 : NArg (mnm 272) 1 := by unfold NArg; decide +kernel
theorem nh272 : NotMH (mnm 272) := ⟨by decide +kernel, by decide +kernel⟩
theorem cw272 : CodeW 272 := ⟨q113, by decide, Or.inl ⟨q461, rfl⟩⟩
theorem cw274 : CodeW 274 := ⟨q113, by decide, Or.inl ⟨q605, rfl⟩⟩
theorem na274 : NArg (mnm 274) 0 := by unfold NArg; decide +kernel
theorem na286 : NArg (mnm 286) 1 := by unfold NArg; decide +kernel
theorem nh286 : NotMH (mnm 286) := ⟨by decide +kernel, by decide +kernel⟩
theorem cw286 : CodeW 286 := ⟨q115, by decide, Or.inl ⟨q588, rfl⟩⟩
theorem cw288 : CodeW 288 := ⟨q115, by decide, Or.inl ⟨q659, rfl⟩⟩
theorem se288 : ∀ k, anyK (rck 288) k = true → Jvm.Cond.selects (knm k) ⟨"java/lang/String", "isLatin1", "()Z"⟩ (mnm 288) ∈ lw_all := by
  intro k h
  have hm : k ∈ [7] := anyK_mem h
  simp only [List.mem_cons, List.not_mem_nil, or_false] at hm
  subst hm
  exact q658
theorem na288 : NArg (mnm 288) 0 := by unfold NArg; decide +kernel
theorem nh288 : NotMH (mnm 288) := ⟨by decide +kernel, by decide +kernel⟩
theorem cw248 : CodeW 248 := ⟨q121, by decide, Or.inl ⟨q1104, rfl⟩⟩
theorem na248 : NArg (mnm 248) 2 := by unfold NArg; decide +kernel
theorem nh248 : NotMH (mnm 248) := ⟨by decide +kernel, by decide +kernel⟩
theorem iz7 : ∀ k, anyK (insk 7) k = true → k ≠ 0 := by
  intro k h z
  subst z
  exact absurd h (by decide)
theorem sz7 : ∀ k, anyK (sbk 7) k = true → k ≠ 0 := by
  intro k h z
  subst z
  exact absurd h (by decide)
theorem cw249 : CodeW 249 := ⟨q121, by decide, Or.inl ⟨q728, rfl⟩⟩
theorem na249 : NArg (mnm 249) 2 := by unfold NArg; decide +kernel
theorem nh249 : NotMH (mnm 249) := ⟨by decide +kernel, by decide +kernel⟩
theorem cw250 : CodeW 250 := ⟨q121, by decide, Or.inl ⟨q752, rfl⟩⟩
theorem na250 : NArg (mnm 250) 1 := by unfold NArg; decide +kernel
theorem nh250 : NotMH (mnm 250) := ⟨by decide +kernel, by decide +kernel⟩
theorem cw285 : CodeW 285 := ⟨q115, by decide, Or.inl ⟨q655, rfl⟩⟩
theorem se292 : ∀ k, anyK (rck 292) k = true → Jvm.Cond.selects (knm k) ⟨"java/lang/String", "indexOf", "(II)I"⟩ (mnm 285) ∈ lw_all := by
  intro k h
  have hm : k ∈ [7] := anyK_mem h
  simp only [List.mem_cons, List.not_mem_nil, or_false] at hm
  subst hm
  exact q654
theorem na285 : NArg (mnm 285) 2 := by unfold NArg; decide +kernel
theorem nh285 : NotMH (mnm 285) := ⟨by decide +kernel, by decide +kernel⟩
theorem cw289 : CodeW 289 := ⟨q115, by decide, Or.inl ⟨q663, rfl⟩⟩
theorem se257 : ∀ k, anyK (rck 257) k = true → Jvm.Cond.selects (knm k) ⟨"java/lang/String", "length", "()I"⟩ (mnm 289) ∈ lw_all := by
  intro k h
  have hm : k ∈ [7] := anyK_mem h
  simp only [List.mem_cons, List.not_mem_nil, or_false] at hm
  subst hm
  exact q662
theorem na289 : NArg (mnm 289) 0 := by unfold NArg; decide +kernel
theorem nh289 : NotMH (mnm 289) := ⟨by decide +kernel, by decide +kernel⟩
theorem cw252 : CodeW 252 := ⟨q121, by decide, Or.inl ⟨q670, rfl⟩⟩
theorem na252 : NArg (mnm 252) 4 := by unfold NArg; decide +kernel
theorem nh252 : NotMH (mnm 252) := ⟨by decide +kernel, by decide +kernel⟩
theorem na287 : NArg (mnm 287) 2 := by unfold NArg; decide +kernel
theorem nh287 : NotMH (mnm 287) := ⟨by decide +kernel, by decide +kernel⟩
theorem cw287 : CodeW 287 := ⟨q115, by decide, Or.inl ⟨q591, rfl⟩⟩
theorem cw271 : CodeW 271 := ⟨q113, by decide, Or.inl ⟨q597, rfl⟩⟩
theorem se295 : ∀ k, anyK (rck 295) k = true → Jvm.Cond.selects (knm k) ⟨"java/lang/AbstractStringBuilder", "getValue", "()[B"⟩ (mnm 271) ∈ lw_all := by
  intro k h
  have hm : k ∈ [6] := anyK_mem h
  simp only [List.mem_cons, List.not_mem_nil, or_false] at hm
  subst hm
  exact q596
theorem na271 : NArg (mnm 271) 0 := by unfold NArg; decide +kernel
theorem nh271 : NotMH (mnm 271) := ⟨by decide +kernel, by decide +kernel⟩
theorem cw277 : CodeW 277 := ⟨q114, by decide, Or.inl ⟨q603, rfl⟩⟩
theorem se296 : ∀ k, anyK (rck 296) k = true → Jvm.Cond.selects (knm k) ⟨"java/lang/AbstractStringBuilder", "length", "()I"⟩ (mnm 277) ∈ lw_all := by
  intro k h
  have hm : k ∈ [6] := anyK_mem h
  simp only [List.mem_cons, List.not_mem_nil, or_false] at hm
  subst hm
  exact q601
theorem nax296 : NArg ⟨"java/lang/AbstractStringBuilder", "length", "()I"⟩ 0 := by unfold NArg; decide +kernel
theorem cw298 : CodeW 298 := ⟨q119, by decide, Or.inl ⟨q609, rfl⟩⟩
theorem na298 : NArg (mnm 298) 3 := by unfold NArg; decide +kernel
theorem nh298 : NotMH (mnm 298) := ⟨by decide +kernel, by decide +kernel⟩
theorem cw281 : CodeW 281 := ⟨q115, by decide, Or.inl ⟨q667, rfl⟩⟩
theorem se298 : ∀ k, anyK (rck 298) k = true → Jvm.Cond.selects (knm k) ⟨"java/lang/String", "coder", "()B"⟩ (mnm 281) ∈ lw_all := by
  intro k h
  have hm : k ∈ [7] := anyK_mem h
  simp only [List.mem_cons, List.not_mem_nil, or_false] at hm
  subst hm
  exact q666
theorem na281 : NArg (mnm 281) 0 := by unfold NArg; decide +kernel
theorem nh281 : NotMH (mnm 281) := ⟨by decide +kernel, by decide +kernel⟩
theorem sz102 : ∀ k, anyK (sbk 102) k = true → k ≠ 0 := by
  intro k h z
  subst z
  exact absurd h (by decide)
theorem cw291 : CodeW 291 := ⟨q117, by decide, Or.inl ⟨q759, rfl⟩⟩
theorem na291 : NArg (mnm 291) 4 := by unfold NArg; decide +kernel
theorem nh291 : NotMH (mnm 291) := ⟨by decide +kernel, by decide +kernel⟩
theorem iz102 : ∀ k, anyK (insk 102) k = true → k ≠ 0 := by
  intro k h z
  subst z
  exact absurd h (by decide)
theorem sb_101 {nm : String} : ∀ k, anyK (sbk 101) k = true → CastOK k nm := fun k h => absurd h (by simp [sbk, anyK])
theorem sz101 : ∀ k, anyK (sbk 101) k = true → k ≠ 0 := by
  intro k h z
  subst z
  exact absurd h (by decide)
theorem cw296 : CodeW 296 := ⟨q119, by decide, Or.inl ⟨q615, rfl⟩⟩
theorem na296 : NArg (mnm 296) 2 := by unfold NArg; decide +kernel
theorem nh296 : NotMH (mnm 296) := ⟨by decide +kernel, by decide +kernel⟩
theorem cw297 : CodeW 297 := ⟨q119, by decide, Or.inl ⟨q612, rfl⟩⟩
theorem na297 : NArg (mnm 297) 3 := by unfold NArg; decide +kernel
theorem nh297 : NotMH (mnm 297) := ⟨by decide +kernel, by decide +kernel⟩
theorem cw300 : CodeW 300 := ⟨q119, by decide, Or.inl ⟨q1050, rfl⟩⟩
theorem na300 : NArg (mnm 300) 3 := by unfold NArg; decide +kernel
theorem nh300 : NotMH (mnm 300) := ⟨by decide +kernel, by decide +kernel⟩
theorem cw268 : CodeW 268 := ⟨q108, by decide, Or.inl ⟨q732, rfl⟩⟩
theorem se76 : ∀ k, anyK (rck 76) k = true → Jvm.Cond.selects (knm k) ⟨"java/util/ArrayList", "size", "()I"⟩ (mnm 268) ∈ lw_all := by
  intro k h
  have hm : k ∈ [3] := anyK_mem h
  simp only [List.mem_cons, List.not_mem_nil, or_false] at hm
  subst hm
  exact q731
theorem na268 : NArg (mnm 268) 0 := by unfold NArg; decide +kernel
theorem nh268 : NotMH (mnm 268) := ⟨by decide +kernel, by decide +kernel⟩
theorem cw26 : CodeW 26 := ⟨q104, by decide, Or.inl ⟨q1132, rfl⟩⟩
theorem na26 : NArg (mnm 26) 3 := by unfold NArg; decide +kernel
theorem nh26 : NotMH (mnm 26) := ⟨by decide +kernel, by decide +kernel⟩
theorem cw27 : CodeW 27 := ⟨q104, by decide, Or.inl ⟨q1466, rfl⟩⟩
theorem na27 : NArg (mnm 27) 1 := by unfold NArg; decide +kernel
theorem nh27 : NotMH (mnm 27) := ⟨by decide +kernel, by decide +kernel⟩
theorem cw3 : CodeW 3 := ⟨q104, by decide, Or.inl ⟨q1705, rfl⟩⟩
theorem na3 : NArg (mnm 3) 2 := by unfold NArg; decide +kernel
theorem nh3 : NotMH (mnm 3) := ⟨by decide +kernel, by decide +kernel⟩
theorem cw57 : CodeW 57 := ⟨q104, by decide, Or.inl ⟨q1709, rfl⟩⟩
theorem na57 : NArg (mnm 57) 0 := by unfold NArg; decide +kernel
theorem nh57 : NotMH (mnm 57) := ⟨by decide +kernel, by decide +kernel⟩
theorem cw54 : CodeW 54 := ⟨q104, by decide, Or.inl ⟨q1712, rfl⟩⟩
theorem na54 : NArg (mnm 54) 2 := by unfold NArg; decide +kernel
theorem nh54 : NotMH (mnm 54) := ⟨by decide +kernel, by decide +kernel⟩
theorem cw264 : CodeW 264 := ⟨q108, by decide, Or.inl ⟨q912, rfl⟩⟩
theorem se82 : ∀ k, anyK (rck 82) k = true → Jvm.Cond.selects (knm k) ⟨"java/util/ArrayList", "get", "(I)Ljava/lang/Object;"⟩ (mnm 264) ∈ lw_all := by
  intro k h
  have hm : k ∈ [3] := anyK_mem h
  simp only [List.mem_cons, List.not_mem_nil, or_false] at hm
  subst hm
  exact q911
theorem na264 : NArg (mnm 264) 1 := by unfold NArg; decide +kernel
theorem nh264 : NotMH (mnm 264) := ⟨by decide +kernel, by decide +kernel⟩
theorem sz11 : ∀ k, anyK (sbk 11) k = true → k ≠ 0 := by
  intro k h z
  subst z
  exact absurd h (by decide)
theorem cw72 : CodeW 72 := ⟨q131, by decide, Or.inl ⟨q1385, rfl⟩⟩
theorem se83 : ∀ k, anyK (rck 83) k = true → Jvm.Cond.selects (knm k) ⟨"FastPlane$Link", "fits", "(I)Z"⟩ (mnm 72) ∈ lw_all := by
  intro k h
  have hm : k ∈ [11] := anyK_mem h
  simp only [List.mem_cons, List.not_mem_nil, or_false] at hm
  subst hm
  exact q1384
theorem na72 : NArg (mnm 72) 1 := by unfold NArg; decide +kernel
theorem nh72 : NotMH (mnm 72) := ⟨by decide +kernel, by decide +kernel⟩
theorem cw64 : CodeW 64 := ⟨q104, by decide, Or.inl ⟨q1637, rfl⟩⟩
theorem na64 : NArg (mnm 64) 3 := by unfold NArg; decide +kernel
theorem nh64 : NotMH (mnm 64) := ⟨by decide +kernel, by decide +kernel⟩
theorem cw28 : CodeW 28 := ⟨q104, by decide, Or.inl ⟨q1720, rfl⟩⟩
theorem na28 : NArg (mnm 28) 5 := by unfold NArg; decide +kernel
theorem nh28 : NotMH (mnm 28) := ⟨by decide +kernel, by decide +kernel⟩
theorem cw50 : CodeW 50 := ⟨q104, by decide, Or.inl ⟨q1354, rfl⟩⟩
theorem na50 : NArg (mnm 50) 1 := by unfold NArg; decide +kernel
theorem nh50 : NotMH (mnm 50) := ⟨by decide +kernel, by decide +kernel⟩
theorem na104 : NArg (mnm 104) 3 := by unfold NArg; decide +kernel
theorem nh104 : NotMH (mnm 104) := ⟨by decide +kernel, by decide +kernel⟩
theorem cw104 : CodeW 104 := ⟨q144, by decide, Or.inl ⟨q1471, rfl⟩⟩
theorem cw65 : CodeW 65 := ⟨q104, by decide, Or.inl ⟨q1498, rfl⟩⟩
theorem na65 : NArg (mnm 65) 2 := by unfold NArg; decide +kernel
theorem nh65 : NotMH (mnm 65) := ⟨by decide +kernel, by decide +kernel⟩
theorem cw29 : CodeW 29 := ⟨q104, by decide, Or.inl ⟨q1360, rfl⟩⟩
theorem na29 : NArg (mnm 29) 1 := by unfold NArg; decide +kernel
theorem nh29 : NotMH (mnm 29) := ⟨by decide +kernel, by decide +kernel⟩
theorem cw31 : CodeW 31 := ⟨q104, by decide, Or.inl ⟨q1561, rfl⟩⟩
theorem na31 : NArg (mnm 31) 1 := by unfold NArg; decide +kernel
theorem nh31 : NotMH (mnm 31) := ⟨by decide +kernel, by decide +kernel⟩
theorem cw14 : CodeW 14 := ⟨q104, by decide, Or.inl ⟨q1577, rfl⟩⟩
theorem na14 : NArg (mnm 14) 2 := by unfold NArg; decide +kernel
theorem nh14 : NotMH (mnm 14) := ⟨by decide +kernel, by decide +kernel⟩
theorem sz51 : ∀ k, anyK (sbk 51) k = true → k ≠ 0 := by
  intro k h z
  subst z
  exact absurd h (by decide)
theorem na105 : NArg (mnm 105) 3 := by unfold NArg; decide +kernel
theorem nh105 : NotMH (mnm 105) := ⟨by decide +kernel, by decide +kernel⟩
theorem cw105 : CodeW 105 := ⟨q145, by decide, Or.inl ⟨q1509, rfl⟩⟩
theorem cw69 : CodeW 69 := ⟨q104, by decide, Or.inl ⟨q1630, rfl⟩⟩
theorem na69 : NArg (mnm 69) 3 := by unfold NArg; decide +kernel
theorem nh69 : NotMH (mnm 69) := ⟨by decide +kernel, by decide +kernel⟩
theorem nav0 : NArg ⟨"FastPlane$Part", "millimetres", "()I"⟩ 0 := by unfold NArg; decide +kernel
theorem cw293 : CodeW 293 := ⟨q118, by decide, Or.inl ⟨q1389, rfl⟩⟩
theorem na293 : NArg (mnm 293) 1 := by unfold NArg; decide +kernel
theorem nh293 : NotMH (mnm 293) := ⟨by decide +kernel, by decide +kernel⟩
theorem cw241 : CodeW 241 := ⟨q129, by decide, Or.inl ⟨q1372, rfl⟩⟩
theorem cw243 : CodeW 243 := ⟨q130, by decide, Or.inl ⟨q1375, rfl⟩⟩
theorem cw30 : CodeW 30 := ⟨q104, by decide, Or.inl ⟨q1129, rfl⟩⟩
theorem na30 : NArg (mnm 30) 1 := by unfold NArg; decide +kernel
theorem nh30 : NotMH (mnm 30) := ⟨by decide +kernel, by decide +kernel⟩
theorem cw35 : CodeW 35 := ⟨q104, by decide, Or.inl ⟨q1665, rfl⟩⟩
theorem na35 : NArg (mnm 35) 3 := by unfold NArg; decide +kernel
theorem nh35 : NotMH (mnm 35) := ⟨by decide +kernel, by decide +kernel⟩
theorem na70 : NArg (mnm 70) 0 := by unfold NArg; decide +kernel
theorem nh70 : NotMH (mnm 70) := ⟨by decide +kernel, by decide +kernel⟩
theorem cw70 : CodeW 70 := ⟨q105, by decide, Or.inl ⟨q159, rfl⟩⟩
theorem na267 : NArg (mnm 267) 1 := by unfold NArg; decide +kernel
theorem nh267 : NotMH (mnm 267) := ⟨by decide +kernel, by decide +kernel⟩
theorem cw267 : CodeW 267 := ⟨q108, by decide, Or.inl ⟨q165, rfl⟩⟩
theorem na102 : NArg (mnm 102) 0 := by unfold NArg; decide +kernel
theorem nh102 : NotMH (mnm 102) := ⟨by decide +kernel, by decide +kernel⟩
theorem cw102 : CodeW 102 := ⟨q109, by decide, Or.inl ⟨q248, rfl⟩⟩
theorem iz20 : ∀ k, anyK (insk 20) k = true → k ≠ 0 := by
  intro k h z
  subst z
  exact absurd h (by decide)
theorem sz20 : ∀ k, anyK (sbk 20) k = true → k ≠ 0 := by
  intro k h z
  subst z
  exact absurd h (by decide)
theorem cw98 : CodeW 98 := ⟨q143, by decide, Or.inl ⟨q1568, rfl⟩⟩
theorem se101 : ∀ k, anyK (rck 101) k = true → Jvm.Cond.selects (knm k) ⟨"FastPlane$Change", "counts", "(I)Z"⟩ (mnm 98) ∈ lw_all := by
  intro k h
  have hm : k ∈ [20] := anyK_mem h
  simp only [List.mem_cons, List.not_mem_nil, or_false] at hm
  subst hm
  exact q1566
theorem nax101 : NArg ⟨"FastPlane$Change", "counts", "(I)Z"⟩ 1 := by unfold NArg; decide +kernel
theorem cw283 : CodeW 283 := ⟨q115, by decide, Or.inl ⟨q749, rfl⟩⟩
theorem se102 : ∀ k, anyK (rck 102) k = true → Jvm.Cond.selects (knm k) ⟨"java/lang/String", "hashCode", "()I"⟩ (mnm 283) ∈ lw_all := by
  intro k h
  have hm : k ∈ [7] := anyK_mem h
  simp only [List.mem_cons, List.not_mem_nil, or_false] at hm
  subst hm
  exact q748
theorem na283 : NArg (mnm 283) 0 := by unfold NArg; decide +kernel
theorem nh283 : NotMH (mnm 283) := ⟨by decide +kernel, by decide +kernel⟩
theorem cw282 : CodeW 282 := ⟨q115, by decide, Or.inl ⟨q724, rfl⟩⟩
theorem se103 : ∀ k, anyK (rck 103) k = true → Jvm.Cond.selects (knm k) ⟨"java/lang/String", "equals", "(Ljava/lang/Object;)Z"⟩ (mnm 282) ∈ lw_all := by
  intro k h
  have hm : k ∈ [7] := anyK_mem h
  simp only [List.mem_cons, List.not_mem_nil, or_false] at hm
  subst hm
  exact q723
theorem na282 : NArg (mnm 282) 1 := by unfold NArg; decide +kernel
theorem nh282 : NotMH (mnm 282) := ⟨by decide +kernel, by decide +kernel⟩
theorem iz22 : ∀ k, anyK (insk 22) k = true → k ≠ 0 := by
  intro k h z
  subst z
  exact absurd h (by decide)
theorem sz53 : ∀ k, anyK (sbk 53) k = true → k ≠ 0 := by
  intro k h z
  subst z
  exact absurd h (by decide)
theorem se104 : ∀ k, anyK (rck 104) k = true → Jvm.Cond.selects (knm k) ⟨"FastPlane$Fact", "counts", "(I)Z"⟩ (mnm 98) ∈ lw_all := by
  intro k h
  have hm : k ∈ [20, 21, 22] := anyK_mem h
  simp only [List.mem_cons, List.not_mem_nil, or_false] at hm
  rcases hm with rfl | rfl | rfl
  · exact q2515
  · exact q2516
  · exact q2517
theorem na98 : NArg (mnm 98) 1 := by unfold NArg; decide +kernel
theorem nh98 : NotMH (mnm 98) := ⟨by decide +kernel, by decide +kernel⟩
theorem sz22 : ∀ k, anyK (sbk 22) k = true → k ≠ 0 := by
  intro k h z
  subst z
  exact absurd h (by decide)
theorem cw257 : CodeW 257 := ⟨q139, by decide, Or.inl ⟨q1669, rfl⟩⟩
theorem na257 : NArg (mnm 257) 1 := by unfold NArg; decide +kernel
theorem nh257 : NotMH (mnm 257) := ⟨by decide +kernel, by decide +kernel⟩
theorem cw101 : CodeW 101 := ⟨q109, by decide, Or.inl ⟨q1419, rfl⟩⟩
theorem se106 : ∀ k, anyK (rck 106) k = true → Jvm.Cond.selects (knm k) ⟨"FastPlane$Treaty", "holds", "(IZ[I)Z"⟩ (mnm 101) ∈ lw_all := by
  intro k h
  have hm : k ∈ [4] := anyK_mem h
  simp only [List.mem_cons, List.not_mem_nil, or_false] at hm
  subst hm
  exact q1418
theorem na101 : NArg (mnm 101) 3 := by unfold NArg; decide +kernel
theorem nh101 : NotMH (mnm 101) := ⟨by decide +kernel, by decide +kernel⟩
theorem cw37 : CodeW 37 := ⟨q104, by decide, Or.inl ⟨q1684, rfl⟩⟩
theorem na37 : NArg (mnm 37) 5 := by unfold NArg; decide +kernel
theorem nh37 : NotMH (mnm 37) := ⟨by decide +kernel, by decide +kernel⟩
theorem cw48 : CodeW 48 := ⟨q104, by decide, Or.inl ⟨q1595, rfl⟩⟩
theorem na48 : NArg (mnm 48) 2 := by unfold NArg; decide +kernel
theorem nh48 : NotMH (mnm 48) := ⟨by decide +kernel, by decide +kernel⟩
theorem cw42 : CodeW 42 := ⟨q104, by decide, Or.inl ⟨q1415, rfl⟩⟩
theorem na42 : NArg (mnm 42) 3 := by unfold NArg; decide +kernel
theorem nh42 : NotMH (mnm 42) := ⟨by decide +kernel, by decide +kernel⟩
theorem na230 : NArg (mnm 230) 1 := by unfold NArg; decide +kernel
theorem nh230 : NotMH (mnm 230) := ⟨by decide +kernel, by decide +kernel⟩
theorem cw230 : CodeW 230 := ⟨q112, by decide, Or.inl ⟨q383, rfl⟩⟩
theorem cw236 : CodeW 236 := ⟨q112, by decide, Or.inl ⟨q438, rfl⟩⟩
theorem se112 : ∀ k, anyK (rck 112) k = true → Jvm.Cond.selects (knm k) ⟨"FastPlane$MachineReader", "text", "()LFastPlane$Machine;"⟩ (mnm 236) ∈ lw_all := by
  intro k h
  have hm : k ∈ [5] := anyK_mem h
  simp only [List.mem_cons, List.not_mem_nil, or_false] at hm
  subst hm
  exact q437
theorem na236 : NArg (mnm 236) 0 := by unfold NArg; decide +kernel
theorem nh236 : NotMH (mnm 236) := ⟨by decide +kernel, by decide +kernel⟩
theorem cw262 : CodeW 262 := ⟨q108, by decide, Or.inl ⟨q1118, rfl⟩⟩
theorem se113 : ∀ k, anyK (rck 113) k = true → Jvm.Cond.selects (knm k) ⟨"java/util/ArrayList", "clear", "()V"⟩ (mnm 262) ∈ lw_all := by
  intro k h
  have hm : k ∈ [3] := anyK_mem h
  simp only [List.mem_cons, List.not_mem_nil, or_false] at hm
  subst hm
  exact q1117
theorem na262 : NArg (mnm 262) 0 := by unfold NArg; decide +kernel
theorem nh262 : NotMH (mnm 262) := ⟨by decide +kernel, by decide +kernel⟩
theorem cw55 : CodeW 55 := ⟨q104, by decide, Or.inl ⟨q1122, rfl⟩⟩
theorem na55 : NArg (mnm 55) 1 := by unfold NArg; decide +kernel
theorem nh55 : NotMH (mnm 55) := ⟨by decide +kernel, by decide +kernel⟩
theorem cw58 : CodeW 58 := ⟨q104, by decide, Or.inl ⟨q1401, rfl⟩⟩
theorem na58 : NArg (mnm 58) 0 := by unfold NArg; decide +kernel
theorem nh58 : NotMH (mnm 58) := ⟨by decide +kernel, by decide +kernel⟩
theorem cw238 : CodeW 238 := ⟨q128, by decide, Or.inl ⟨q1366, rfl⟩⟩
theorem se116 : ∀ k, anyK (rck 116) k = true → Jvm.Cond.selects (knm k) ⟨"FastPlane$Part", "at", "(I)I"⟩ (mnm 238) ∈ lw_all := by
  intro k h
  have hm : k ∈ [9, 10] := anyK_mem h
  simp only [List.mem_cons, List.not_mem_nil, or_false] at hm
  rcases hm with rfl | rfl
  · exact q1364
  · exact q1365
theorem na238 : NArg (mnm 238) 1 := by unfold NArg; decide +kernel
theorem nh238 : NotMH (mnm 238) := ⟨by decide +kernel, by decide +kernel⟩
theorem cw7 : CodeW 7 := ⟨q104, by decide, Or.inl ⟨q1634, rfl⟩⟩
theorem na7 : NArg (mnm 7) 3 := by unfold NArg; decide +kernel
theorem nh7 : NotMH (mnm 7) := ⟨by decide +kernel, by decide +kernel⟩
theorem iz21 : ∀ k, anyK (insk 21) k = true → k ≠ 0 := by
  intro k h z
  subst z
  exact absurd h (by decide)
theorem sz21 : ∀ k, anyK (sbk 21) k = true → k ≠ 0 := by
  intro k h z
  subst z
  exact absurd h (by decide)
theorem se118 : ∀ k, anyK (rck 118) k = true → Jvm.Cond.selects (knm k) ⟨"FastPlane$Estimate", "counts", "(I)Z"⟩ (mnm 98) ∈ lw_all := by
  intro k h
  have hm : k ∈ [21] := anyK_mem h
  simp only [List.mem_cons, List.not_mem_nil, or_false] at hm
  subst hm
  exact q1598
theorem nax118 : NArg ⟨"FastPlane$Estimate", "counts", "(I)Z"⟩ 1 := by unfold NArg; decide +kernel
theorem cw103 : CodeW 103 := ⟨q109, by decide, Or.inl ⟨q1585, rfl⟩⟩
theorem se119 : ∀ k, anyK (rck 119) k = true → Jvm.Cond.selects (knm k) ⟨"FastPlane$Treaty", "share", "([I)I"⟩ (mnm 103) ∈ lw_all := by
  intro k h
  have hm : k ∈ [4] := anyK_mem h
  simp only [List.mem_cons, List.not_mem_nil, or_false] at hm
  subst hm
  exact q1584
theorem na103 : NArg (mnm 103) 1 := by unfold NArg; decide +kernel
theorem nh103 : NotMH (mnm 103) := ⟨by decide +kernel, by decide +kernel⟩
theorem cw9 : CodeW 9 := ⟨q104, by decide, Or.inl ⟨q1622, rfl⟩⟩
theorem na9 : NArg (mnm 9) 3 := by unfold NArg; decide +kernel
theorem nh9 : NotMH (mnm 9) := ⟨by decide +kernel, by decide +kernel⟩
theorem cw20 : CodeW 20 := ⟨q104, by decide, Or.inl ⟨q1626, rfl⟩⟩
theorem na20 : NArg (mnm 20) 3 := by unfold NArg; decide +kernel
theorem nh20 : NotMH (mnm 20) := ⟨by decide +kernel, by decide +kernel⟩
theorem cw8 : CodeW 8 := ⟨q104, by decide, Or.inl ⟨q1716, rfl⟩⟩
theorem na8 : NArg (mnm 8) 5 := by unfold NArg; decide +kernel
theorem nh8 : NotMH (mnm 8) := ⟨by decide +kernel, by decide +kernel⟩
theorem cw10 : CodeW 10 := ⟨q104, by decide, Or.inl ⟨q1724, rfl⟩⟩
theorem na10 : NArg (mnm 10) 5 := by unfold NArg; decide +kernel
theorem nh10 : NotMH (mnm 10) := ⟨by decide +kernel, by decide +kernel⟩
theorem cw21 : CodeW 21 := ⟨q104, by decide, Or.inl ⟨q1405, rfl⟩⟩
theorem na21 : NArg (mnm 21) 2 := by unfold NArg; decide +kernel
theorem nh21 : NotMH (mnm 21) := ⟨by decide +kernel, by decide +kernel⟩
theorem na106 : NArg (mnm 106) 3 := by unfold NArg; decide +kernel
theorem nh106 : NotMH (mnm 106) := ⟨by decide +kernel, by decide +kernel⟩
theorem cw106 : CodeW 106 := ⟨q146, by decide, Or.inl ⟨q1527, rfl⟩⟩
theorem cw25 : CodeW 25 := ⟨q104, by decide, Or.inl ⟨q1649, rfl⟩⟩
theorem na25 : NArg (mnm 25) 1 := by unfold NArg; decide +kernel
theorem nh25 : NotMH (mnm 25) := ⟨by decide +kernel, by decide +kernel⟩
theorem cw41 : CodeW 41 := ⟨q104, by decide, Or.inl ⟨q1459, rfl⟩⟩
theorem na41 : NArg (mnm 41) 4 := by unfold NArg; decide +kernel
theorem nh41 : NotMH (mnm 41) := ⟨by decide +kernel, by decide +kernel⟩
theorem cw16 : CodeW 16 := ⟨q104, by decide, Or.inl ⟨q1653, rfl⟩⟩
theorem na16 : NArg (mnm 16) 4 := by unfold NArg; decide +kernel
theorem nh16 : NotMH (mnm 16) := ⟨by decide +kernel, by decide +kernel⟩
theorem cw260 : CodeW 260 := ⟨q108, by decide, Or.inl ⟨q1001, rfl⟩⟩
theorem se129 : ∀ k, anyK (rck 129) k = true → Jvm.Cond.selects (knm k) ⟨"java/util/ArrayList", "add", "(Ljava/lang/Object;)Z"⟩ (mnm 260) ∈ lw_all := by
  intro k h
  have hm : k ∈ [3] := anyK_mem h
  simp only [List.mem_cons, List.not_mem_nil, or_false] at hm
  subst hm
  exact q1000
theorem na260 : NArg (mnm 260) 1 := by unfold NArg; decide +kernel
theorem nh260 : NotMH (mnm 260) := ⟨by decide +kernel, by decide +kernel⟩
theorem na77 : NArg (mnm 77) 1 := by unfold NArg; decide +kernel
theorem nh77 : NotMH (mnm 77) := ⟨by decide +kernel, by decide +kernel⟩
theorem cw77 : CodeW 77 := ⟨q132, by decide, Or.inl ⟨q1137, rfl⟩⟩
theorem cw82 : CodeW 82 := ⟨q132, by decide, Or.inl ⟨q1167, rfl⟩⟩
theorem se131 : ∀ k, anyK (rck 131) k = true → Jvm.Cond.selects (knm k) ⟨"FastPlane$TreatyReader", "text", "()LFastPlane$Treaty;"⟩ (mnm 82) ∈ lw_all := by
  intro k h
  have hm : k ∈ [12] := anyK_mem h
  simp only [List.mem_cons, List.not_mem_nil, or_false] at hm
  subst hm
  exact q1166
theorem na82 : NArg (mnm 82) 0 := by unfold NArg; decide +kernel
theorem nh82 : NotMH (mnm 82) := ⟨by decide +kernel, by decide +kernel⟩
theorem cw100 : CodeW 100 := ⟨q143, by decide, Or.inl ⟨q1548, rfl⟩⟩
theorem se132 : ∀ k, anyK (rck 132) k = true → Jvm.Cond.selects (knm k) ⟨"FastPlane$Fact", "untell", "(I)Z"⟩ (mnm 100) ∈ lw_all := by
  intro k h
  have hm : k ∈ [20, 21, 22] := anyK_mem h
  simp only [List.mem_cons, List.not_mem_nil, or_false] at hm
  rcases hm with rfl | rfl | rfl
  · exact q1545
  · exact q1546
  · exact q1547
theorem na100 : NArg (mnm 100) 1 := by unfold NArg; decide +kernel
theorem nh100 : NotMH (mnm 100) := ⟨by decide +kernel, by decide +kernel⟩
theorem cw176 : CodeW 176 := ⟨q110, by decide, Or.inl ⟨q2167, rfl⟩⟩
theorem na176 : NArg (mnm 176) 0 := by unfold NArg; decide +kernel
theorem nh176 : NotMH (mnm 176) := ⟨by decide +kernel, by decide +kernel⟩
theorem cw154 : CodeW 154 := ⟨q110, by decide, Or.inl ⟨q2183, rfl⟩⟩
theorem na154 : NArg (mnm 154) 0 := by unfold NArg; decide +kernel
theorem nh154 : NotMH (mnm 154) := ⟨by decide +kernel, by decide +kernel⟩
theorem cw204 : CodeW 204 := ⟨q110, by decide, Or.inl ⟨q2375, rfl⟩⟩
theorem na204 : NArg (mnm 204) 0 := by unfold NArg; decide +kernel
theorem nh204 : NotMH (mnm 204) := ⟨by decide +kernel, by decide +kernel⟩
theorem cw144 : CodeW 144 := ⟨q110, by decide, Or.inl ⟨q2170, rfl⟩⟩
theorem na144 : NArg (mnm 144) 3 := by unfold NArg; decide +kernel
theorem nh144 : NotMH (mnm 144) := ⟨by decide +kernel, by decide +kernel⟩
theorem cw148 : CodeW 148 := ⟨q110, by decide, Or.inl ⟨q2288, rfl⟩⟩
theorem na148 : NArg (mnm 148) 1 := by unfold NArg; decide +kernel
theorem nh148 : NotMH (mnm 148) := ⟨by decide +kernel, by decide +kernel⟩
theorem cw147 : CodeW 147 := ⟨q110, by decide, Or.inl ⟨q2456, rfl⟩⟩
theorem na147 : NArg (mnm 147) 2 := by unfold NArg; decide +kernel
theorem nh147 : NotMH (mnm 147) := ⟨by decide +kernel, by decide +kernel⟩
theorem cw158 : CodeW 158 := ⟨q110, by decide, Or.inl ⟨q2460, rfl⟩⟩
theorem na158 : NArg (mnm 158) 0 := by unfold NArg; decide +kernel
theorem nh158 : NotMH (mnm 158) := ⟨by decide +kernel, by decide +kernel⟩
theorem cw201 : CodeW 201 := ⟨q110, by decide, Or.inl ⟨q2463, rfl⟩⟩
theorem na201 : NArg (mnm 201) 5 := by unfold NArg; decide +kernel
theorem nh201 : NotMH (mnm 201) := ⟨by decide +kernel, by decide +kernel⟩
theorem cw182 : CodeW 182 := ⟨q110, by decide, Or.inl ⟨q2250, rfl⟩⟩
theorem na182 : NArg (mnm 182) 0 := by unfold NArg; decide +kernel
theorem nh182 : NotMH (mnm 182) := ⟨by decide +kernel, by decide +kernel⟩
theorem cw139 : CodeW 139 := ⟨q110, by decide, Or.inl ⟨q2254, rfl⟩⟩
theorem na139 : NArg (mnm 139) 0 := by unfold NArg; decide +kernel
theorem nh139 : NotMH (mnm 139) := ⟨by decide +kernel, by decide +kernel⟩
theorem cw217 : CodeW 217 := ⟨q110, by decide, Or.inl ⟨q2111, rfl⟩⟩
theorem na217 : NArg (mnm 217) 0 := by unfold NArg; decide +kernel
theorem nh217 : NotMH (mnm 217) := ⟨by decide +kernel, by decide +kernel⟩
theorem cw202 : CodeW 202 := ⟨q110, by decide, Or.inl ⟨q2242, rfl⟩⟩
theorem na202 : NArg (mnm 202) 2 := by unfold NArg; decide +kernel
theorem nh202 : NotMH (mnm 202) := ⟨by decide +kernel, by decide +kernel⟩
theorem cw197 : CodeW 197 := ⟨q110, by decide, Or.inl ⟨q2045, rfl⟩⟩
theorem na197 : NArg (mnm 197) 1 := by unfold NArg; decide +kernel
theorem nh197 : NotMH (mnm 197) := ⟨by decide +kernel, by decide +kernel⟩
theorem cw181 : CodeW 181 := ⟨q110, by decide, Or.inl ⟨q2226, rfl⟩⟩
theorem na181 : NArg (mnm 181) 2 := by unfold NArg; decide +kernel
theorem nh181 : NotMH (mnm 181) := ⟨by decide +kernel, by decide +kernel⟩
theorem cw170 : CodeW 170 := ⟨q110, by decide, Or.inl ⟨q2041, rfl⟩⟩
theorem na170 : NArg (mnm 170) 0 := by unfold NArg; decide +kernel
theorem nh170 : NotMH (mnm 170) := ⟨by decide +kernel, by decide +kernel⟩
theorem cw153 : CodeW 153 := ⟨q110, by decide, Or.inl ⟨q2151, rfl⟩⟩
theorem na153 : NArg (mnm 153) 1 := by unfold NArg; decide +kernel
theorem nh153 : NotMH (mnm 153) := ⟨by decide +kernel, by decide +kernel⟩
theorem cw169 : CodeW 169 := ⟨q110, by decide, Or.inl ⟨q2123, rfl⟩⟩
theorem na169 : NArg (mnm 169) 1 := by unfold NArg; decide +kernel
theorem nh169 : NotMH (mnm 169) := ⟨by decide +kernel, by decide +kernel⟩
theorem cw208 : CodeW 208 := ⟨q110, by decide, Or.inl ⟨q2391, rfl⟩⟩
theorem na208 : NArg (mnm 208) 6 := by unfold NArg; decide +kernel
theorem nh208 : NotMH (mnm 208) := ⟨by decide +kernel, by decide +kernel⟩
theorem cw200 : CodeW 200 := ⟨q110, by decide, Or.inl ⟨q2395, rfl⟩⟩
theorem na200 : NArg (mnm 200) 0 := by unfold NArg; decide +kernel
theorem nh200 : NotMH (mnm 200) := ⟨by decide +kernel, by decide +kernel⟩
theorem cw132 : CodeW 132 := ⟨q110, by decide, Or.inl ⟨q2187, rfl⟩⟩
theorem na132 : NArg (mnm 132) 2 := by unfold NArg; decide +kernel
theorem nh132 : NotMH (mnm 132) := ⟨by decide +kernel, by decide +kernel⟩
theorem cw149 : CodeW 149 := ⟨q110, by decide, Or.inl ⟨q2163, rfl⟩⟩
theorem na149 : NArg (mnm 149) 1 := by unfold NArg; decide +kernel
theorem nh149 : NotMH (mnm 149) := ⟨by decide +kernel, by decide +kernel⟩
theorem cw205 : CodeW 205 := ⟨q110, by decide, Or.inl ⟨q2292, rfl⟩⟩
theorem na205 : NArg (mnm 205) 3 := by unfold NArg; decide +kernel
theorem nh205 : NotMH (mnm 205) := ⟨by decide +kernel, by decide +kernel⟩
theorem cw129 : CodeW 129 := ⟨q110, by decide, Or.inl ⟨q2318, rfl⟩⟩
theorem na129 : NArg (mnm 129) 1 := by unfold NArg; decide +kernel
theorem nh129 : NotMH (mnm 129) := ⟨by decide +kernel, by decide +kernel⟩
theorem cw118 : CodeW 118 := ⟨q110, by decide, Or.inl ⟨q2331, rfl⟩⟩
theorem na118 : NArg (mnm 118) 2 := by unfold NArg; decide +kernel
theorem nh118 : NotMH (mnm 118) := ⟨by decide +kernel, by decide +kernel⟩
theorem cw143 : CodeW 143 := ⟨q110, by decide, Or.inl ⟨q2095, rfl⟩⟩
theorem na143 : NArg (mnm 143) 0 := by unfold NArg; decide +kernel
theorem nh143 : NotMH (mnm 143) := ⟨by decide +kernel, by decide +kernel⟩
theorem cw210 : CodeW 210 := ⟨q110, by decide, Or.inl ⟨q2230, rfl⟩⟩
theorem na210 : NArg (mnm 210) 0 := by unfold NArg; decide +kernel
theorem nh210 : NotMH (mnm 210) := ⟨by decide +kernel, by decide +kernel⟩
theorem cw110 : CodeW 110 := ⟨q110, by decide, Or.inl ⟨q2246, rfl⟩⟩
theorem na110 : NArg (mnm 110) 0 := by unfold NArg; decide +kernel
theorem nh110 : NotMH (mnm 110) := ⟨by decide +kernel, by decide +kernel⟩
theorem cw133 : CodeW 133 := ⟨q110, by decide, Or.inl ⟨q2266, rfl⟩⟩
theorem na133 : NArg (mnm 133) 4 := by unfold NArg; decide +kernel
theorem nh133 : NotMH (mnm 133) := ⟨by decide +kernel, by decide +kernel⟩
theorem cw128 : CodeW 128 := ⟨q110, by decide, Or.inl ⟨q2383, rfl⟩⟩
theorem na128 : NArg (mnm 128) 1 := by unfold NArg; decide +kernel
theorem nh128 : NotMH (mnm 128) := ⟨by decide +kernel, by decide +kernel⟩
theorem cw111 : CodeW 111 := ⟨q110, by decide, Or.inl ⟨q2387, rfl⟩⟩
theorem na111 : NArg (mnm 111) 2 := by unfold NArg; decide +kernel
theorem nh111 : NotMH (mnm 111) := ⟨by decide +kernel, by decide +kernel⟩
theorem cw119 : CodeW 119 := ⟨q110, by decide, Or.inl ⟨q2323, rfl⟩⟩
theorem na119 : NArg (mnm 119) 3 := by unfold NArg; decide +kernel
theorem nh119 : NotMH (mnm 119) := ⟨by decide +kernel, by decide +kernel⟩
theorem cw165 : CodeW 165 := ⟨q110, by decide, Or.inl ⟨q2174, rfl⟩⟩
theorem na165 : NArg (mnm 165) 2 := by unfold NArg; decide +kernel
theorem nh165 : NotMH (mnm 165) := ⟨by decide +kernel, by decide +kernel⟩
theorem cw130 : CodeW 130 := ⟨q110, by decide, Or.inl ⟨q2191, rfl⟩⟩
theorem na130 : NArg (mnm 130) 3 := by unfold NArg; decide +kernel
theorem nh130 : NotMH (mnm 130) := ⟨by decide +kernel, by decide +kernel⟩
theorem cw216 : CodeW 216 := ⟨q110, by decide, Or.inl ⟨q2270, rfl⟩⟩
theorem na216 : NArg (mnm 216) 3 := by unfold NArg; decide +kernel
theorem nh216 : NotMH (mnm 216) := ⟨by decide +kernel, by decide +kernel⟩
theorem cw174 : CodeW 174 := ⟨q110, by decide, Or.inl ⟨q2478, rfl⟩⟩
theorem na174 : NArg (mnm 174) 5 := by unfold NArg; decide +kernel
theorem nh174 : NotMH (mnm 174) := ⟨by decide +kernel, by decide +kernel⟩
theorem cw151 : CodeW 151 := ⟨q110, by decide, Or.inl ⟨q2214, rfl⟩⟩
theorem na151 : NArg (mnm 151) 1 := by unfold NArg; decide +kernel
theorem nh151 : NotMH (mnm 151) := ⟨by decide +kernel, by decide +kernel⟩
theorem cw190 : CodeW 190 := ⟨q110, by decide, Or.inl ⟨q2419, rfl⟩⟩
theorem na190 : NArg (mnm 190) 3 := by unfold NArg; decide +kernel
theorem nh190 : NotMH (mnm 190) := ⟨by decide +kernel, by decide +kernel⟩
theorem cw152 : CodeW 152 := ⟨q110, by decide, Or.inl ⟨q2103, rfl⟩⟩
theorem na152 : NArg (mnm 152) 1 := by unfold NArg; decide +kernel
theorem nh152 : NotMH (mnm 152) := ⟨by decide +kernel, by decide +kernel⟩
theorem cw214 : CodeW 214 := ⟨q110, by decide, Or.inl ⟨q2467, rfl⟩⟩
theorem na214 : NArg (mnm 214) 5 := by unfold NArg; decide +kernel
theorem nh214 : NotMH (mnm 214) := ⟨by decide +kernel, by decide +kernel⟩
theorem cw135 : CodeW 135 := ⟨q110, by decide, Or.inl ⟨q2474, rfl⟩⟩
theorem na135 : NArg (mnm 135) 5 := by unfold NArg; decide +kernel
theorem nh135 : NotMH (mnm 135) := ⟨by decide +kernel, by decide +kernel⟩
theorem cw172 : CodeW 172 := ⟨q110, by decide, Or.inl ⟨q2343, rfl⟩⟩
theorem na172 : NArg (mnm 172) 2 := by unfold NArg; decide +kernel
theorem nh172 : NotMH (mnm 172) := ⟨by decide +kernel, by decide +kernel⟩
theorem cw160 : CodeW 160 := ⟨q110, by decide, Or.inl ⟨q2281, rfl⟩⟩
theorem na160 : NArg (mnm 160) 3 := by unfold NArg; decide +kernel
theorem nh160 : NotMH (mnm 160) := ⟨by decide +kernel, by decide +kernel⟩
theorem cw203 : CodeW 203 := ⟨q110, by decide, Or.inl ⟨q2037, rfl⟩⟩
theorem na203 : NArg (mnm 203) 0 := by unfold NArg; decide +kernel
theorem nh203 : NotMH (mnm 203) := ⟨by decide +kernel, by decide +kernel⟩
theorem cw184 : CodeW 184 := ⟨q110, by decide, Or.inl ⟨q2099, rfl⟩⟩
theorem na184 : NArg (mnm 184) 0 := by unfold NArg; decide +kernel
theorem nh184 : NotMH (mnm 184) := ⟨by decide +kernel, by decide +kernel⟩
theorem cw192 : CodeW 192 := ⟨q110, by decide, Or.inl ⟨q2203, rfl⟩⟩
theorem na192 : NArg (mnm 192) 0 := by unfold NArg; decide +kernel
theorem nh192 : NotMH (mnm 192) := ⟨by decide +kernel, by decide +kernel⟩
theorem cw178 : CodeW 178 := ⟨q110, by decide, Or.inl ⟨q2367, rfl⟩⟩
theorem na178 : NArg (mnm 178) 3 := by unfold NArg; decide +kernel
theorem nh178 : NotMH (mnm 178) := ⟨by decide +kernel, by decide +kernel⟩
theorem cw146 : CodeW 146 := ⟨q110, by decide, Or.inl ⟨q2048, rfl⟩⟩
theorem na146 : NArg (mnm 146) 1 := by unfold NArg; decide +kernel
theorem nh146 : NotMH (mnm 146) := ⟨by decide +kernel, by decide +kernel⟩
theorem cw145 : CodeW 145 := ⟨q110, by decide, Or.inl ⟨q2051, rfl⟩⟩
theorem na145 : NArg (mnm 145) 1 := by unfold NArg; decide +kernel
theorem nh145 : NotMH (mnm 145) := ⟨by decide +kernel, by decide +kernel⟩
theorem cw140 : CodeW 140 := ⟨q110, by decide, Or.inl ⟨q2088, rfl⟩⟩
theorem na140 : NArg (mnm 140) 1 := by unfold NArg; decide +kernel
theorem nh140 : NotMH (mnm 140) := ⟨by decide +kernel, by decide +kernel⟩
theorem cw150 : CodeW 150 := ⟨q110, by decide, Or.inl ⟨q2091, rfl⟩⟩
theorem na150 : NArg (mnm 150) 1 := by unfold NArg; decide +kernel
theorem nh150 : NotMH (mnm 150) := ⟨by decide +kernel, by decide +kernel⟩
theorem cw124 : CodeW 124 := ⟨q110, by decide, Or.inl ⟨q2115, rfl⟩⟩
theorem na124 : NArg (mnm 124) 2 := by unfold NArg; decide +kernel
theorem nh124 : NotMH (mnm 124) := ⟨by decide +kernel, by decide +kernel⟩
theorem cw141 : CodeW 141 := ⟨q110, by decide, Or.inl ⟨q2371, rfl⟩⟩
theorem na141 : NArg (mnm 141) 2 := by unfold NArg; decide +kernel
theorem nh141 : NotMH (mnm 141) := ⟨by decide +kernel, by decide +kernel⟩
theorem cw127 : CodeW 127 := ⟨q110, by decide, Or.inl ⟨q2379, rfl⟩⟩
theorem na127 : NArg (mnm 127) 0 := by unfold NArg; decide +kernel
theorem nh127 : NotMH (mnm 127) := ⟨by decide +kernel, by decide +kernel⟩
theorem cw175 : CodeW 175 := ⟨q110, by decide, Or.inl ⟨q2135, rfl⟩⟩
theorem na175 : NArg (mnm 175) 1 := by unfold NArg; decide +kernel
theorem nh175 : NotMH (mnm 175) := ⟨by decide +kernel, by decide +kernel⟩
theorem cw171 : CodeW 171 := ⟨q110, by decide, Or.inl ⟨q2127, rfl⟩⟩
theorem na171 : NArg (mnm 171) 2 := by unfold NArg; decide +kernel
theorem nh171 : NotMH (mnm 171) := ⟨by decide +kernel, by decide +kernel⟩
theorem cw142 : CodeW 142 := ⟨q110, by decide, Or.inl ⟨q2107, rfl⟩⟩
theorem na142 : NArg (mnm 142) 0 := by unfold NArg; decide +kernel
theorem nh142 : NotMH (mnm 142) := ⟨by decide +kernel, by decide +kernel⟩
theorem cw186 : CodeW 186 := ⟨q110, by decide, Or.inl ⟨q2119, rfl⟩⟩
theorem na186 : NArg (mnm 186) 0 := by unfold NArg; decide +kernel
theorem nh186 : NotMH (mnm 186) := ⟨by decide +kernel, by decide +kernel⟩
theorem cw183 : CodeW 183 := ⟨q110, by decide, Or.inl ⟨q2131, rfl⟩⟩
theorem na183 : NArg (mnm 183) 0 := by unfold NArg; decide +kernel
theorem nh183 : NotMH (mnm 183) := ⟨by decide +kernel, by decide +kernel⟩
theorem cw185 : CodeW 185 := ⟨q110, by decide, Or.inl ⟨q2139, rfl⟩⟩
theorem na185 : NArg (mnm 185) 0 := by unfold NArg; decide +kernel
theorem nh185 : NotMH (mnm 185) := ⟨by decide +kernel, by decide +kernel⟩
theorem cw188 : CodeW 188 := ⟨q110, by decide, Or.inl ⟨q2143, rfl⟩⟩
theorem na188 : NArg (mnm 188) 0 := by unfold NArg; decide +kernel
theorem nh188 : NotMH (mnm 188) := ⟨by decide +kernel, by decide +kernel⟩
theorem cw187 : CodeW 187 := ⟨q110, by decide, Or.inl ⟨q2147, rfl⟩⟩
theorem na187 : NArg (mnm 187) 0 := by unfold NArg; decide +kernel
theorem nh187 : NotMH (mnm 187) := ⟨by decide +kernel, by decide +kernel⟩
theorem cw120 : CodeW 120 := ⟨q110, by decide, Or.inl ⟨q2222, rfl⟩⟩
theorem na120 : NArg (mnm 120) 0 := by unfold NArg; decide +kernel
theorem nh120 : NotMH (mnm 120) := ⟨by decide +kernel, by decide +kernel⟩
theorem cw131 : CodeW 131 := ⟨q110, by decide, Or.inl ⟨q2207, rfl⟩⟩
theorem na131 : NArg (mnm 131) 2 := by unfold NArg; decide +kernel
theorem nh131 : NotMH (mnm 131) := ⟨by decide +kernel, by decide +kernel⟩
theorem cw134 : CodeW 134 := ⟨q110, by decide, Or.inl ⟨q2436, rfl⟩⟩
theorem na134 : NArg (mnm 134) 2 := by unfold NArg; decide +kernel
theorem nh134 : NotMH (mnm 134) := ⟨by decide +kernel, by decide +kernel⟩
theorem cw193 : CodeW 193 := ⟨q110, by decide, Or.inl ⟨q2432, rfl⟩⟩
theorem na193 : NArg (mnm 193) 1 := by unfold NArg; decide +kernel
theorem nh193 : NotMH (mnm 193) := ⟨by decide +kernel, by decide +kernel⟩
theorem cw122 : CodeW 122 := ⟨q110, by decide, Or.inl ⟨q2407, rfl⟩⟩
theorem na122 : NArg (mnm 122) 7 := by unfold NArg; decide +kernel
theorem nh122 : NotMH (mnm 122) := ⟨by decide +kernel, by decide +kernel⟩
theorem cw189 : CodeW 189 := ⟨q110, by decide, Or.inl ⟨q2218, rfl⟩⟩
theorem na189 : NArg (mnm 189) 0 := by unfold NArg; decide +kernel
theorem nh189 : NotMH (mnm 189) := ⟨by decide +kernel, by decide +kernel⟩
theorem cw215 : CodeW 215 := ⟨q110, by decide, Or.inl ⟨q2234, rfl⟩⟩
theorem na215 : NArg (mnm 215) 0 := by unfold NArg; decide +kernel
theorem nh215 : NotMH (mnm 215) := ⟨by decide +kernel, by decide +kernel⟩
theorem cw163 : CodeW 163 := ⟨q110, by decide, Or.inl ⟨q2238, rfl⟩⟩
theorem na163 : NArg (mnm 163) 1 := by unfold NArg; decide +kernel
theorem nh163 : NotMH (mnm 163) := ⟨by decide +kernel, by decide +kernel⟩
theorem cw211 : CodeW 211 := ⟨q110, by decide, Or.inl ⟨q2262, rfl⟩⟩
theorem na211 : NArg (mnm 211) 2 := by unfold NArg; decide +kernel
theorem nh211 : NotMH (mnm 211) := ⟨by decide +kernel, by decide +kernel⟩
theorem cw114 : CodeW 114 := ⟨q110, by decide, Or.inl ⟨q2470, rfl⟩⟩
theorem na114 : NArg (mnm 114) 1 := by unfold NArg; decide +kernel
theorem nh114 : NotMH (mnm 114) := ⟨by decide +kernel, by decide +kernel⟩
theorem cw206 : CodeW 206 := ⟨q110, by decide, Or.inl ⟨q2274, rfl⟩⟩
theorem na206 : NArg (mnm 206) 2 := by unfold NArg; decide +kernel
theorem nh206 : NotMH (mnm 206) := ⟨by decide +kernel, by decide +kernel⟩
theorem cw209 : CodeW 209 := ⟨q110, by decide, Or.inl ⟨q2277, rfl⟩⟩
theorem na209 : NArg (mnm 209) 3 := by unfold NArg; decide +kernel
theorem nh209 : NotMH (mnm 209) := ⟨by decide +kernel, by decide +kernel⟩
theorem cw79 : CodeW 79 := ⟨q132, by decide, Or.inl ⟨q1202, rfl⟩⟩
theorem na79 : NArg (mnm 79) 0 := by unfold NArg; decide +kernel
theorem nh79 : NotMH (mnm 79) := ⟨by decide +kernel, by decide +kernel⟩
theorem cw224 : CodeW 224 := ⟨q111, by decide, Or.inl ⟨q1325, rfl⟩⟩
theorem se134 : ∀ k, anyK (rck 134) k = true → Jvm.Cond.selects (knm k) ⟨"FastPlane$TreatyReader", "may", "(Ljava/lang/String;)Z"⟩ (mnm 224) ∈ lw_all := by
  intro k h
  have hm : k ∈ [12] := anyK_mem h
  simp only [List.mem_cons, List.not_mem_nil, or_false] at hm
  subst hm
  exact q1323
theorem nax134 : NArg ⟨"FastPlane$TreatyReader", "may", "(Ljava/lang/String;)Z"⟩ 1 := by unfold NArg; decide +kernel
theorem sz52 : ∀ k, anyK (sbk 52) k = true → k ≠ 0 := by
  intro k h z
  subst z
  exact absurd h (by decide)
theorem na96 : NArg (mnm 96) 2 := by unfold NArg; decide +kernel
theorem nh96 : NotMH (mnm 96) := ⟨by decide +kernel, by decide +kernel⟩
theorem cw96 : CodeW 96 := ⟨q142, by decide, Or.inl ⟨q1333, rfl⟩⟩
theorem cw229 : CodeW 229 := ⟨q111, by decide, Or.inl ⟨q812, rfl⟩⟩
theorem se136 : ∀ k, anyK (rck 136) k = true → Jvm.Cond.selects (knm k) ⟨"FastPlane$TreatyReader", "wrong", "()LFastPlane$Wrong;"⟩ (mnm 229) ∈ lw_all := by
  intro k h
  have hm : k ∈ [12] := anyK_mem h
  simp only [List.mem_cons, List.not_mem_nil, or_false] at hm
  subst hm
  exact q1184
theorem nax136 : NArg ⟨"FastPlane$TreatyReader", "wrong", "()LFastPlane$Wrong;"⟩ 0 := by unfold NArg; decide +kernel
theorem cw74 : CodeW 74 := ⟨q132, by decide, Or.inl ⟨q1198, rfl⟩⟩
theorem na74 : NArg (mnm 74) 0 := by unfold NArg; decide +kernel
theorem nh74 : NotMH (mnm 74) := ⟨by decide +kernel, by decide +kernel⟩
theorem na219 : NArg (mnm 219) 1 := by unfold NArg; decide +kernel
theorem nh219 : NotMH (mnm 219) := ⟨by decide +kernel, by decide +kernel⟩
theorem cw219 : CodeW 219 := ⟨q111, by decide, Or.inl ⟨q386, rfl⟩⟩
theorem cw222 : CodeW 222 := ⟨q111, by decide, Or.inl ⟨q720, rfl⟩⟩
theorem se139 : ∀ k, anyK (rck 139) k = true → Jvm.Cond.selects (knm k) ⟨"FastPlane$TreatyReader", "is", "(Ljava/lang/String;)Z"⟩ (mnm 222) ∈ lw_all := by
  intro k h
  have hm : k ∈ [12] := anyK_mem h
  simp only [List.mem_cons, List.not_mem_nil, or_false] at hm
  subst hm
  exact q1178
theorem nax139 : NArg ⟨"FastPlane$TreatyReader", "is", "(Ljava/lang/String;)Z"⟩ 1 := by unfold NArg; decide +kernel
theorem cw75 : CodeW 75 := ⟨q132, by decide, Or.inl ⟨q1207, rfl⟩⟩
theorem na75 : NArg (mnm 75) 0 := by unfold NArg; decide +kernel
theorem nh75 : NotMH (mnm 75) := ⟨by decide +kernel, by decide +kernel⟩
theorem cw227 : CodeW 227 := ⟨q111, by decide, Or.inl ⟨q444, rfl⟩⟩
theorem se141 : ∀ k, anyK (rck 141) k = true → Jvm.Cond.selects (knm k) ⟨"FastPlane$TreatyReader", "next", "()V"⟩ (mnm 227) ∈ lw_all := by
  intro k h
  have hm : k ∈ [12] := anyK_mem h
  simp only [List.mem_cons, List.not_mem_nil, or_false] at hm
  subst hm
  exact q1170
theorem nax141 : NArg ⟨"FastPlane$TreatyReader", "next", "()V"⟩ 0 := by unfold NArg; decide +kernel
theorem na85 : NArg (mnm 85) 1 := by unfold NArg; decide +kernel
theorem nh85 : NotMH (mnm 85) := ⟨by decide +kernel, by decide +kernel⟩
theorem cw85 : CodeW 85 := ⟨q134, by decide, Or.inl ⟨q1212, rfl⟩⟩
theorem cw80 : CodeW 80 := ⟨q132, by decide, Or.inl ⟨q1224, rfl⟩⟩
theorem na80 : NArg (mnm 80) 0 := by unfold NArg; decide +kernel
theorem nh80 : NotMH (mnm 80) := ⟨by decide +kernel, by decide +kernel⟩
theorem na94 : NArg (mnm 94) 3 := by unfold NArg; decide +kernel
theorem nh94 : NotMH (mnm 94) := ⟨by decide +kernel, by decide +kernel⟩
theorem cw94 : CodeW 94 := ⟨q141, by decide, Or.inl ⟨q1306, rfl⟩⟩
theorem cw81 : CodeW 81 := ⟨q132, by decide, Or.inl ⟨q1228, rfl⟩⟩
theorem na81 : NArg (mnm 81) 0 := by unfold NArg; decide +kernel
theorem nh81 : NotMH (mnm 81) := ⟨by decide +kernel, by decide +kernel⟩
theorem na92 : NArg (mnm 92) 1 := by unfold NArg; decide +kernel
theorem nh92 : NotMH (mnm 92) := ⟨by decide +kernel, by decide +kernel⟩
theorem cw92 : CodeW 92 := ⟨q137, by decide, Or.inl ⟨q1266, rfl⟩⟩
theorem cw91 : CodeW 91 := ⟨q137, by decide, Or.inl ⟨q1281, rfl⟩⟩
theorem se147 : ∀ k, anyK (rck 147) k = true → Jvm.Cond.selects (knm k) ⟨"FastPlane$Chain", "add", "(ILFastPlane$Ex;)V"⟩ (mnm 91) ∈ lw_all := by
  intro k h
  have hm : k ∈ [16] := anyK_mem h
  simp only [List.mem_cons, List.not_mem_nil, or_false] at hm
  subst hm
  exact q1280
theorem na91 : NArg (mnm 91) 2 := by unfold NArg; decide +kernel
theorem nh91 : NotMH (mnm 91) := ⟨by decide +kernel, by decide +kernel⟩
theorem cw83 : CodeW 83 := ⟨q132, by decide, Or.inl ⟨q1232, rfl⟩⟩
theorem na83 : NArg (mnm 83) 0 := by unfold NArg; decide +kernel
theorem nh83 : NotMH (mnm 83) := ⟨by decide +kernel, by decide +kernel⟩
theorem cw78 : CodeW 78 := ⟨q132, by decide, Or.inl ⟨q1174, rfl⟩⟩
theorem na78 : NArg (mnm 78) 0 := by unfold NArg; decide +kernel
theorem nh78 : NotMH (mnm 78) := ⟨by decide +kernel, by decide +kernel⟩
theorem cw223 : CodeW 223 := ⟨q111, by decide, Or.inl ⟨q931, rfl⟩⟩
theorem se150 : ∀ k, anyK (rck 150) k = true → Jvm.Cond.selects (knm k) ⟨"FastPlane$TreatyReader", "key", "(Ljava/lang/String;)V"⟩ (mnm 223) ∈ lw_all := by
  intro k h
  have hm : k ∈ [12] := anyK_mem h
  simp only [List.mem_cons, List.not_mem_nil, or_false] at hm
  subst hm
  exact q1188
theorem nax150 : NArg ⟨"FastPlane$TreatyReader", "key", "(Ljava/lang/String;)V"⟩ 1 := by unfold NArg; decide +kernel
theorem cw76 : CodeW 76 := ⟨q132, by decide, Or.inl ⟨q1192, rfl⟩⟩
theorem na76 : NArg (mnm 76) 0 := by unfold NArg; decide +kernel
theorem nh76 : NotMH (mnm 76) := ⟨by decide +kernel, by decide +kernel⟩
theorem cw226 : CodeW 226 := ⟨q111, by decide, Or.inl ⟨q1114, rfl⟩⟩
theorem se152 : ∀ k, anyK (rck 152) k = true → Jvm.Cond.selects (knm k) ⟨"FastPlane$TreatyReader", "need", "(I)V"⟩ (mnm 226) ∈ lw_all := by
  intro k h
  have hm : k ∈ [12] := anyK_mem h
  simp only [List.mem_cons, List.not_mem_nil, or_false] at hm
  subst hm
  exact q1241
theorem nax152 : NArg ⟨"FastPlane$TreatyReader", "need", "(I)V"⟩ 1 := by unfold NArg; decide +kernel
theorem cw32 : CodeW 32 := ⟨q104, by decide, Or.inl ⟨q745, rfl⟩⟩
theorem na32 : NArg (mnm 32) 1 := by unfold NArg; decide +kernel
theorem nh32 : NotMH (mnm 32) := ⟨by decide +kernel, by decide +kernel⟩
theorem cw43 : CodeW 43 := ⟨q104, by decide, Or.inl ⟨q1236, rfl⟩⟩
theorem na43 : NArg (mnm 43) 1 := by unfold NArg; decide +kernel
theorem nh43 : NotMH (mnm 43) := ⟨by decide +kernel, by decide +kernel⟩
theorem na237 : NArg (mnm 237) 2 := by unfold NArg; decide +kernel
theorem nh237 : NotMH (mnm 237) := ⟨by decide +kernel, by decide +kernel⟩
theorem cw237 : CodeW 237 := ⟨q126, by decide, Or.inl ⟨q852, rfl⟩⟩
theorem na87 : NArg (mnm 87) 1 := by unfold NArg; decide +kernel
theorem nh87 : NotMH (mnm 87) := ⟨by decide +kernel, by decide +kernel⟩
theorem cw87 : CodeW 87 := ⟨q135, by decide, Or.inl ⟨q1246, rfl⟩⟩
theorem na89 : NArg (mnm 89) 1 := by unfold NArg; decide +kernel
theorem nh89 : NotMH (mnm 89) := ⟨by decide +kernel, by decide +kernel⟩
theorem cw89 : CodeW 89 := ⟨q136, by decide, Or.inl ⟨q1256, rfl⟩⟩
theorem na84 : NArg (mnm 84) 0 := by unfold NArg; decide +kernel
theorem nh84 : NotMH (mnm 84) := ⟨by decide +kernel, by decide +kernel⟩
theorem cw84 : CodeW 84 := ⟨q133, by decide, Or.inl ⟨q1215, rfl⟩⟩
theorem nav1 : NArg ⟨"FastPlane$Ex", "of", "([I)I"⟩ 1 := by unfold NArg; decide +kernel
theorem cw86 : CodeW 86 := ⟨q134, by decide, Or.inl ⟨q1436, rfl⟩⟩
theorem cw88 : CodeW 88 := ⟨q135, by decide, Or.inl ⟨q1444, rfl⟩⟩
theorem cw90 : CodeW 90 := ⟨q136, by decide, Or.inl ⟨q1442, rfl⟩⟩
theorem cw93 : CodeW 93 := ⟨q137, by decide, Or.inl ⟨q1425, rfl⟩⟩
theorem cw95 : CodeW 95 := ⟨q141, by decide, Or.inl ⟨q1439, rfl⟩⟩
theorem cw97 : CodeW 97 := ⟨q142, by decide, Or.inl ⟨q1430, rfl⟩⟩
theorem vx1 : ∀ k, anyK exk k = true → Jvm.Cond.selects (knm k) ⟨"FastPlane$Ex", "of", "([I)I"⟩ (mnm (vt1 k)) ∈ lw_all ∧ Jvm.Cond.instanceMethod (mnm (vt1 k)) ∈ lw_all ∧ CodeW (vt1 k) ∧ vt1 k < nat0 ∧ k ≠ 0 := by
  intro k h
  have hm : k ∈ [13, 14, 15, 16, 18, 19] := anyK_mem h
  simp only [List.mem_cons, List.not_mem_nil, or_false] at hm
  rcases hm with rfl | rfl | rfl | rfl | rfl | rfl
  · exact ⟨q1452, q1435, cw86, by decide, by decide⟩
  · exact ⟨q1455, q1443, cw88, by decide, by decide⟩
  · exact ⟨q1454, q1441, cw90, by decide, by decide⟩
  · exact ⟨q1423, q1424, cw93, by decide, by decide⟩
  · exact ⟨q1453, q1438, cw95, by decide, by decide⟩
  · exact ⟨q1451, q1429, cw97, by decide, by decide⟩
theorem cw259 : CodeW 259 := ⟨q139, by decide, Or.inl ⟨q1284, rfl⟩⟩
theorem na259 : NArg (mnm 259) 1 := by unfold NArg; decide +kernel
theorem nh259 : NotMH (mnm 259) := ⟨by decide +kernel, by decide +kernel⟩
theorem sz17 : ∀ k, anyK (sbk 17) k = true → k ≠ 0 := by
  intro k h z
  subst z
  exact absurd h (by decide)
theorem cw258 : CodeW 258 := ⟨q139, by decide, Or.inl ⟨q1450, rfl⟩⟩
theorem se160 : ∀ k, anyK (rck 160) k = true → Jvm.Cond.selects (knm k) ⟨"java/lang/Integer", "intValue", "()I"⟩ (mnm 258) ∈ lw_all := by
  intro k h
  have hm : k ∈ [17] := anyK_mem h
  simp only [List.mem_cons, List.not_mem_nil, or_false] at hm
  subst hm
  exact q1449
theorem na258 : NArg (mnm 258) 0 := by unfold NArg; decide +kernel
theorem nh258 : NotMH (mnm 258) := ⟨by decide +kernel, by decide +kernel⟩
theorem na99 : NArg (mnm 99) 2 := by unfold NArg; decide +kernel
theorem nh99 : NotMH (mnm 99) := ⟨by decide +kernel, by decide +kernel⟩
theorem cw99 : CodeW 99 := ⟨q143, by decide, Or.inl ⟨q1474, rfl⟩⟩
theorem cw218 : CodeW 218 := ⟨q111, by decide, Or.inl ⟨q449, rfl⟩⟩
theorem na218 : NArg (mnm 218) 1 := by unfold NArg; decide +kernel
theorem nh218 : NotMH (mnm 218) := ⟨by decide +kernel, by decide +kernel⟩
theorem se237 : ∀ k, anyK (rck 237) k = true → Jvm.Cond.selects (knm k) ⟨"FastPlane$Reader", "is", "(Ljava/lang/String;)Z"⟩ (mnm 222) ∈ lw_all := by
  intro k h
  have hm : k ∈ [5, 12] := anyK_mem h
  simp only [List.mem_cons, List.not_mem_nil, or_false] at hm
  rcases hm with rfl | rfl
  · exact q2509
  · exact q2510
theorem na222 : NArg (mnm 222) 1 := by unfold NArg; decide +kernel
theorem nh222 : NotMH (mnm 222) := ⟨by decide +kernel, by decide +kernel⟩
theorem se238 : ∀ k, anyK (rck 238) k = true → Jvm.Cond.selects (knm k) ⟨"FastPlane$Reader", "wrong", "()LFastPlane$Wrong;"⟩ (mnm 229) ∈ lw_all := by
  intro k h
  have hm : k ∈ [5, 12] := anyK_mem h
  simp only [List.mem_cons, List.not_mem_nil, or_false] at hm
  rcases hm with rfl | rfl
  · exact q810
  · exact q811
theorem na229 : NArg (mnm 229) 0 := by unfold NArg; decide +kernel
theorem nh229 : NotMH (mnm 229) := ⟨by decide +kernel, by decide +kernel⟩
theorem se239 : ∀ k, anyK (rck 239) k = true → Jvm.Cond.selects (knm k) ⟨"FastPlane$Reader", "next", "()V"⟩ (mnm 227) ∈ lw_all := by
  intro k h
  have hm : k ∈ [5, 12] := anyK_mem h
  simp only [List.mem_cons, List.not_mem_nil, or_false] at hm
  rcases hm with rfl | rfl
  · exact q2512
  · exact q2513
theorem na227 : NArg (mnm 227) 0 := by unfold NArg; decide +kernel
theorem nh227 : NotMH (mnm 227) := ⟨by decide +kernel, by decide +kernel⟩
theorem cw221 : CodeW 221 := ⟨q111, by decide, Or.inl ⟨q453, rfl⟩⟩
theorem na221 : NArg (mnm 221) 1 := by unfold NArg; decide +kernel
theorem nh221 : NotMH (mnm 221) := ⟨by decide +kernel, by decide +kernel⟩
theorem na276 : NArg (mnm 276) 1 := by unfold NArg; decide +kernel
theorem nh276 : NotMH (mnm 276) := ⟨by decide +kernel, by decide +kernel⟩
theorem cw276 : CodeW 276 := ⟨q114, by decide, Or.inl ⟨q458, rfl⟩⟩
theorem cw275 : CodeW 275 := ⟨q114, by decide, Or.inl ⟨q488, rfl⟩⟩
theorem se242 : ∀ k, anyK (rck 242) k = true → Jvm.Cond.selects (knm k) ⟨"java/lang/StringBuilder", "append", "(C)Ljava/lang/StringBuilder;"⟩ (mnm 275) ∈ lw_all := by
  intro k h
  have hm : k ∈ [6] := anyK_mem h
  simp only [List.mem_cons, List.not_mem_nil, or_false] at hm
  subst hm
  exact q487
theorem na275 : NArg (mnm 275) 1 := by unfold NArg; decide +kernel
theorem nh275 : NotMH (mnm 275) := ⟨by decide +kernel, by decide +kernel⟩
theorem cw278 : CodeW 278 := ⟨q114, by decide, Or.inl ⟨q583, rfl⟩⟩
theorem se243 : ∀ k, anyK (rck 243) k = true → Jvm.Cond.selects (knm k) ⟨"java/lang/StringBuilder", "toString", "()Ljava/lang/String;"⟩ (mnm 278) ∈ lw_all := by
  intro k h
  have hm : k ∈ [6] := anyK_mem h
  simp only [List.mem_cons, List.not_mem_nil, or_false] at hm
  subst hm
  exact q582
theorem na278 : NArg (mnm 278) 0 := by unfold NArg; decide +kernel
theorem nh278 : NotMH (mnm 278) := ⟨by decide +kernel, by decide +kernel⟩
theorem cw220 : CodeW 220 := ⟨q111, by decide, Or.inl ⟨q646, rfl⟩⟩
theorem na220 : NArg (mnm 220) 1 := by unfold NArg; decide +kernel
theorem nh220 : NotMH (mnm 220) := ⟨by decide +kernel, by decide +kernel⟩
theorem cw284 : CodeW 284 := ⟨q115, by decide, Or.inl ⟨q651, rfl⟩⟩
theorem se245 : ∀ k, anyK (rck 245) k = true → Jvm.Cond.selects (knm k) ⟨"java/lang/String", "indexOf", "(I)I"⟩ (mnm 284) ∈ lw_all := by
  intro k h
  have hm : k ∈ [7] := anyK_mem h
  simp only [List.mem_cons, List.not_mem_nil, or_false] at hm
  subst hm
  exact q650
theorem na284 : NArg (mnm 284) 1 := by unfold NArg; decide +kernel
theorem nh284 : NotMH (mnm 284) := ⟨by decide +kernel, by decide +kernel⟩
theorem se246 : ∀ k, anyK (rck 246) k = true → Jvm.Cond.selects (knm k) ⟨"FastPlane$MachineReader", "next", "()V"⟩ (mnm 227) ∈ lw_all := by
  intro k h
  have hm : k ∈ [5] := anyK_mem h
  simp only [List.mem_cons, List.not_mem_nil, or_false] at hm
  subst hm
  exact q442
theorem nax246 : NArg ⟨"FastPlane$MachineReader", "next", "()V"⟩ 0 := by unfold NArg; decide +kernel
theorem cw232 : CodeW 232 := ⟨q112, by decide, Or.inl ⟨q1063, rfl⟩⟩
theorem na232 : NArg (mnm 232) 1 := by unfold NArg; decide +kernel
theorem nh232 : NotMH (mnm 232) := ⟨by decide +kernel, by decide +kernel⟩
theorem se248 : ∀ k, anyK (rck 248) k = true → Jvm.Cond.selects (knm k) ⟨"FastPlane$MachineReader", "key", "(Ljava/lang/String;)V"⟩ (mnm 223) ∈ lw_all := by
  intro k h
  have hm : k ∈ [5] := anyK_mem h
  simp only [List.mem_cons, List.not_mem_nil, or_false] at hm
  subst hm
  exact q929
theorem nax248 : NArg ⟨"FastPlane$MachineReader", "key", "(Ljava/lang/String;)V"⟩ 1 := by unfold NArg; decide +kernel
theorem cw228 : CodeW 228 := ⟨q111, by decide, Or.inl ⟨q939, rfl⟩⟩
theorem se249 : ∀ k, anyK (rck 249) k = true → Jvm.Cond.selects (knm k) ⟨"FastPlane$MachineReader", "number", "(II)I"⟩ (mnm 228) ∈ lw_all := by
  intro k h
  have hm : k ∈ [5] := anyK_mem h
  simp only [List.mem_cons, List.not_mem_nil, or_false] at hm
  subst hm
  exact q937
theorem nax249 : NArg ⟨"FastPlane$MachineReader", "number", "(II)I"⟩ 2 := by unfold NArg; decide +kernel
theorem na73 : NArg (mnm 73) 3 := by unfold NArg; decide +kernel
theorem nh73 : NotMH (mnm 73) := ⟨by decide +kernel, by decide +kernel⟩
theorem cw73 : CodeW 73 := ⟨q131, by decide, Or.inl ⟨q1068, rfl⟩⟩
theorem cw225 : CodeW 225 := ⟨q111, by decide, Or.inl ⟨q742, rfl⟩⟩
theorem se251 : ∀ k, anyK (rck 251) k = true → Jvm.Cond.selects (knm k) ⟨"FastPlane$MachineReader", "mustBeName", "()V"⟩ (mnm 225) ∈ lw_all := by
  intro k h
  have hm : k ∈ [5] := anyK_mem h
  simp only [List.mem_cons, List.not_mem_nil, or_false] at hm
  subst hm
  exact q740
theorem nax251 : NArg ⟨"FastPlane$MachineReader", "mustBeName", "()V"⟩ 0 := by unfold NArg; decide +kernel
theorem cw71 : CodeW 71 := ⟨q105, by decide, Or.inl ⟨q907, rfl⟩⟩
theorem se252 : ∀ k, anyK (rck 252) k = true → Jvm.Cond.selects (knm k) ⟨"FastPlane$Machine", "part", "(Ljava/lang/String;)LFastPlane$Part;"⟩ (mnm 71) ∈ lw_all := by
  intro k h
  have hm : k ∈ [2] := anyK_mem h
  simp only [List.mem_cons, List.not_mem_nil, or_false] at hm
  subst hm
  exact q906
theorem na71 : NArg (mnm 71) 1 := by unfold NArg; decide +kernel
theorem nh71 : NotMH (mnm 71) := ⟨by decide +kernel, by decide +kernel⟩
theorem se253 : ∀ k, anyK (rck 253) k = true → Jvm.Cond.selects (knm k) ⟨"FastPlane$MachineReader", "is", "(Ljava/lang/String;)Z"⟩ (mnm 222) ∈ lw_all := by
  intro k h
  have hm : k ∈ [5] := anyK_mem h
  simp only [List.mem_cons, List.not_mem_nil, or_false] at hm
  subst hm
  exact q718
theorem nax253 : NArg ⟨"FastPlane$MachineReader", "is", "(Ljava/lang/String;)Z"⟩ 1 := by unfold NArg; decide +kernel
theorem se254 : ∀ k, anyK (rck 254) k = true → Jvm.Cond.selects (knm k) ⟨"FastPlane$MachineReader", "wrong", "()LFastPlane$Wrong;"⟩ (mnm 229) ∈ lw_all := by
  intro k h
  have hm : k ∈ [5] := anyK_mem h
  simp only [List.mem_cons, List.not_mem_nil, or_false] at hm
  subst hm
  exact q946
theorem nax254 : NArg ⟨"FastPlane$MachineReader", "wrong", "()LFastPlane$Wrong;"⟩ 0 := by unfold NArg; decide +kernel
theorem na240 : NArg (mnm 240) 6 := by unfold NArg; decide +kernel
theorem nh240 : NotMH (mnm 240) := ⟨by decide +kernel, by decide +kernel⟩
theorem cw240 : CodeW 240 := ⟨q129, by decide, Or.inl ⟨q953, rfl⟩⟩
theorem na242 : NArg (mnm 242) 6 := by unfold NArg; decide +kernel
theorem nh242 : NotMH (mnm 242) := ⟨by decide +kernel, by decide +kernel⟩
theorem cw242 : CodeW 242 := ⟨q130, by decide, Or.inl ⟨q989, rfl⟩⟩
theorem cw279 : CodeW 279 := ⟨q115, by decide, Or.inl ⟨q1101, rfl⟩⟩
theorem se258 : ∀ k, anyK (rck 258) k = true → Jvm.Cond.selects (knm k) ⟨"java/lang/String", "charAt", "(I)C"⟩ (mnm 279) ∈ lw_all := by
  intro k h
  have hm : k ∈ [7] := anyK_mem h
  simp only [List.mem_cons, List.not_mem_nil, or_false] at hm
  subst hm
  exact q1100
theorem na279 : NArg (mnm 279) 1 := by unfold NArg; decide +kernel
theorem nh279 : NotMH (mnm 279) := ⟨by decide +kernel, by decide +kernel⟩
theorem cw233 : CodeW 233 := ⟨q112, by decide, Or.inl ⟨q736, rfl⟩⟩
theorem na233 : NArg (mnm 233) 0 := by unfold NArg; decide +kernel
theorem nh233 : NotMH (mnm 233) := ⟨by decide +kernel, by decide +kernel⟩
theorem cw231 : CodeW 231 := ⟨q112, by decide, Or.inl ⟨q1059, rfl⟩⟩
theorem na231 : NArg (mnm 231) 3 := by unfold NArg; decide +kernel
theorem nh231 : NotMH (mnm 231) := ⟨by decide +kernel, by decide +kernel⟩
theorem cw235 : CodeW 235 := ⟨q112, by decide, Or.inl ⟨q1089, rfl⟩⟩
theorem na235 : NArg (mnm 235) 0 := by unfold NArg; decide +kernel
theorem nh235 : NotMH (mnm 235) := ⟨by decide +kernel, by decide +kernel⟩
theorem cw234 : CodeW 234 := ⟨q112, by decide, Or.inl ⟨q1096, rfl⟩⟩
theorem na234 : NArg (mnm 234) 0 := by unfold NArg; decide +kernel
theorem nh234 : NotMH (mnm 234) := ⟨by decide +kernel, by decide +kernel⟩
theorem se263 : ∀ k, anyK (rck 263) k = true → Jvm.Cond.selects (knm k) ⟨"FastPlane$MachineReader", "need", "(I)V"⟩ (mnm 226) ∈ lw_all := by
  intro k h
  have hm : k ∈ [5] := anyK_mem h
  simp only [List.mem_cons, List.not_mem_nil, or_false] at hm
  subst hm
  exact q1112
theorem nax263 : NArg ⟨"FastPlane$MachineReader", "need", "(I)V"⟩ 1 := by unfold NArg; decide +kernel
theorem na255 : NArg (mnm 255) 4 := by unfold NArg; decide +kernel
theorem nh255 : NotMH (mnm 255) := ⟨by decide +kernel, by decide +kernel⟩
theorem cw255 : CodeW 255 := ⟨q125, by decide, Or.inl ⟨q855, rfl⟩⟩
theorem na239 : NArg (mnm 239) 6 := by unfold NArg; decide +kernel
theorem nh239 : NotMH (mnm 239) := ⟨by decide +kernel, by decide +kernel⟩
theorem cw239 : CodeW 239 := ⟨q128, by decide, Or.inl ⟨q956, rfl⟩⟩
