set_option maxRecDepth 100000
theorem q131 : (Jvm.Cond.initialized "SecretsWorthLaw") ∈ lw_all := lw_g (lw_at lw_m1 0 rfl) rfl
theorem q132 : (Jvm.Cond.initialized "SecretsWorth") ∈ lw_all := lw_g (lw_at lw_m1 1 rfl) rfl
theorem q133 : (Jvm.Cond.initialized "SecretsWorth$House") ∈ lw_all := lw_g (lw_at lw_m1 2 rfl) rfl
theorem q134 : (Jvm.Cond.initialized "SecretsWorth$Ratio") ∈ lw_all := lw_g (lw_at lw_m1 3 rfl) rfl
theorem q135 : (Jvm.Cond.initialized "SecretsWorth$Sheet") ∈ lw_all := lw_g (lw_at lw_m1 4 rfl) rfl
theorem q136 : (Jvm.Cond.initialized "SecretsWorthModel") ∈ lw_all := lw_g (lw_at lw_m1 5 rfl) rfl
theorem q137 : (Jvm.Cond.initialized "java/lang/Throwable") ∈ lw_all := lw_g (lw_at lw_m1 6 rfl) rfl
theorem q138 : (Jvm.Cond.initialized "java/lang/Exception") ∈ lw_all := lw_g (lw_at lw_m1 7 rfl) rfl
theorem q139 : (Jvm.Cond.initialized "java/lang/RuntimeException") ∈ lw_all := lw_g (lw_at lw_m1 8 rfl) rfl
theorem q140 : (Jvm.Cond.initialized "SecretsWorth$Wrong") ∈ lw_all := lw_g (lw_at lw_m1 9 rfl) rfl
theorem q141 : (Jvm.Cond.initialized "java/lang/NullPointerException") ∈ lw_all := lw_g (lw_at lw_m1 10 rfl) rfl
theorem q142 : (Jvm.Cond.initialized "java/lang/IndexOutOfBoundsException") ∈ lw_all := lw_g (lw_at lw_m1 11 rfl) rfl
theorem q143 : (Jvm.Cond.initialized "java/lang/ArrayIndexOutOfBoundsException") ∈ lw_all := lw_g (lw_at lw_m1 12 rfl) rfl
theorem q144 : (Jvm.Cond.initialized "java/lang/String") ∈ lw_all := lw_g (lw_at lw_m1 13 rfl) rfl
theorem q145 : (Jvm.Cond.initialized "java/lang/Number") ∈ lw_all := lw_g (lw_at lw_m1 14 rfl) rfl
theorem q146 : (Jvm.Cond.initialized "java/lang/Integer") ∈ lw_all := lw_g (lw_at lw_m1 15 rfl) rfl
theorem q147 : (Jvm.Cond.initialized "java/lang/Math") ∈ lw_all := lw_g (lw_at lw_m1 16 rfl) rfl
theorem q148 : (Jvm.Cond.initialized "java/lang/ArithmeticException") ∈ lw_all := lw_g (lw_at lw_m1 17 rfl) rfl
theorem q149 : (Jvm.Cond.initialized "java/lang/System") ∈ lw_all := lw_g (lw_at lw_m1 18 rfl) rfl
theorem q150 : (Jvm.Cond.initialized "java/lang/AbstractStringBuilder") ∈ lw_all := lw_g (lw_at lw_m1 19 rfl) rfl
theorem q151 : (Jvm.Cond.initialized "java/lang/StringBuilder") ∈ lw_all := lw_g (lw_at lw_m1 20 rfl) rfl
theorem q152 : (Jvm.Cond.initialized "java/lang/StringUTF16") ∈ lw_all := lw_g (lw_at lw_m1 21 rfl) rfl
theorem q153 : (Jvm.Cond.initialized "jdk/internal/util/ArraysSupport") ∈ lw_all := lw_g (lw_at lw_m1 22 rfl) rfl
theorem q154 : (Jvm.Cond.initialized "java/util/Arrays") ∈ lw_all := lw_g (lw_at lw_m1 23 rfl) rfl
theorem q155 : (Jvm.Cond.initialized "java/lang/StringLatin1") ∈ lw_all := lw_g (lw_at lw_m1 24 rfl) rfl
theorem q156 : (Jvm.Cond.initialized "jdk/internal/util/Preconditions") ∈ lw_all := lw_g (lw_at lw_m1 25 rfl) rfl
theorem q157 : (Jvm.Cond.initialized "SecretsWorth$Fault") ∈ lw_all := lw_g (lw_at lw_m1 26 rfl) rfl
theorem q158 : (Jvm.Cond.initialized "SecretsWorth$Node") ∈ lw_all := lw_g (lw_at lw_m1 27 rfl) rfl
theorem q159 : (Jvm.Cond.initialized "SecretsWorth$Says") ∈ lw_all := lw_g (lw_at lw_m1 28 rfl) rfl
theorem q160 : (Jvm.Cond.initialized "java/lang/Long") ∈ lw_all := lw_g (lw_at lw_m1 29 rfl) rfl
theorem q161 : (Jvm.Cond.initialized "SecretsWorth$Was") ∈ lw_all := lw_g (lw_at lw_m1 30 rfl) rfl
theorem q162 : (Jvm.Cond.classLink "SecretsWorthLaw" (7 : Nat) "SecretsWorth") ∈ lw_all := lw_g (lw_at lw_m1 31 rfl) rfl
theorem q163 : (Jvm.Cond.instantiable "SecretsWorth" (49 : Nat)) ∈ lw_all := lw_g (lw_at lw_m1 32 rfl) rfl
theorem q164 : (Jvm.Cond.methodLink "SecretsWorthLaw" (9 : Nat) ({ cls := "SecretsWorth", name := "<init>", desc := "()V" } : Jvm.MethodName)) ∈ lw_all := lw_g (lw_at lw_m1 33 rfl) rfl
theorem q165 : (Jvm.Cond.instanceMethod ({ cls := "SecretsWorth", name := "<init>", desc := "()V" } : Jvm.MethodName)) ∈ lw_all := lw_g (lw_at lw_m1 34 rfl) rfl
theorem q166 : (Jvm.Cond.code ({ cls := "SecretsWorth", name := "<init>", desc := "()V" } : Jvm.MethodName) prog_1_method_8_code (2 : Nat) (Option.none : Option Jvm.ClassFile.FieldType)) ∈ lw_all := lw_g (lw_at lw_m1 35 rfl) rfl
theorem q167 : (Jvm.Cond.methodLink "SecretsWorth" (32 : Nat) ({ cls := "java/lang/Object", name := "<init>", desc := "()V" } : Jvm.MethodName)) ∈ lw_all := lw_g (lw_at lw_m1 36 rfl) rfl
theorem q168 : (Jvm.Cond.instanceMethod ({ cls := "java/lang/Object", name := "<init>", desc := "()V" } : Jvm.MethodName)) ∈ lw_all := lw_g (lw_at lw_m1 37 rfl) rfl
theorem q169 : (Jvm.Cond.code ({ cls := "java/lang/Object", name := "<init>", desc := "()V" } : Jvm.MethodName) object_method_1_code (1 : Nat) (Option.none : Option Jvm.ClassFile.FieldType)) ∈ lw_all := lw_g (lw_at lw_m1 38 rfl) rfl
theorem q170 : (Jvm.Cond.classLink "SecretsWorth" (37 : Nat) "SecretsWorth$House") ∈ lw_all := lw_g (lw_at lw_m1 39 rfl) rfl
theorem q171 : (Jvm.Cond.instantiable "SecretsWorth$House" (10 : Nat)) ∈ lw_all := lw_g (lw_at lw_m1 40 rfl) rfl
theorem q172 : (Jvm.Cond.methodLink "SecretsWorth" (39 : Nat) ({ cls := "SecretsWorth$House", name := "<init>", desc := "()V" } : Jvm.MethodName)) ∈ lw_all := lw_g (lw_at lw_m1 41 rfl) rfl
theorem q173 : (Jvm.Cond.instanceMethod ({ cls := "SecretsWorth$House", name := "<init>", desc := "()V" } : Jvm.MethodName)) ∈ lw_all := lw_g (lw_at lw_m1 42 rfl) rfl
theorem q174 : (Jvm.Cond.code ({ cls := "SecretsWorth$House", name := "<init>", desc := "()V" } : Jvm.MethodName) prog_3_method_1_code (1 : Nat) (Option.none : Option Jvm.ClassFile.FieldType)) ∈ lw_all := lw_g (lw_at lw_m1 43 rfl) rfl
theorem q175 : (Jvm.Cond.methodLink "SecretsWorth$House" (3 : Nat) ({ cls := "java/lang/Object", name := "<init>", desc := "()V" } : Jvm.MethodName)) ∈ lw_all := lw_g (lw_at lw_m1 44 rfl) rfl
theorem q176 : (Jvm.Cond.classLink "SecretsWorth$House" (24 : Nat) "[[[I") ∈ lw_all := lw_g (lw_at lw_m1 45 rfl) rfl
theorem q177 : (Jvm.Cond.arrayOver (Jvm.ClassFile.FieldType.array (Jvm.ClassFile.FieldType.array Jvm.ClassFile.FieldType.int))) ∈ lw_tbl := lw_at lw_m1 46 rfl
theorem q178 : (Jvm.Cond.arrayOver (Jvm.ClassFile.FieldType.array Jvm.ClassFile.FieldType.int)) ∈ lw_tbl := lw_at lw_m1 47 rfl
theorem q179 : (Jvm.Cond.classLink "SecretsWorth$House" (33 : Nat) "[[I") ∈ lw_all := lw_g (lw_at lw_m1 48 rfl) rfl
theorem q180 : (Jvm.Cond.methodLink "SecretsWorth$House" (38 : Nat) ({ cls := "SecretsWorth$House", name := "laysPoints", desc := "()V" } : Jvm.MethodName)) ∈ lw_all := lw_g (lw_at lw_m1 49 rfl) rfl
theorem q181 : (Jvm.Cond.privateMethod ({ cls := "SecretsWorth$House", name := "laysPoints", desc := "()V" } : Jvm.MethodName)) ∈ lw_tbl := lw_at lw_m1 50 rfl
theorem q182 : (Jvm.Cond.instanceMethod ({ cls := "SecretsWorth$House", name := "laysPoints", desc := "()V" } : Jvm.MethodName)) ∈ lw_all := lw_g (lw_at lw_m1 51 rfl) rfl
theorem q183 : (Jvm.Cond.code ({ cls := "SecretsWorth$House", name := "laysPoints", desc := "()V" } : Jvm.MethodName) prog_3_method_3_code (3 : Nat) (Option.none : Option Jvm.ClassFile.FieldType)) ∈ lw_all := lw_g (lw_at lw_m1 52 rfl) rfl
theorem q184 : (Jvm.Cond.methodLink "SecretsWorth$House" (44 : Nat) ({ cls := "SecretsWorth$House", name := "point", desc := "(III)V" } : Jvm.MethodName)) ∈ lw_all := lw_g (lw_at lw_m1 53 rfl) rfl
theorem q185 : (Jvm.Cond.privateMethod ({ cls := "SecretsWorth$House", name := "point", desc := "(III)V" } : Jvm.MethodName)) ∈ lw_tbl := lw_at lw_m1 54 rfl
theorem q186 : (Jvm.Cond.instanceMethod ({ cls := "SecretsWorth$House", name := "point", desc := "(III)V" } : Jvm.MethodName)) ∈ lw_all := lw_g (lw_at lw_m1 55 rfl) rfl
theorem q187 : (Jvm.Cond.code ({ cls := "SecretsWorth$House", name := "point", desc := "(III)V" } : Jvm.MethodName) prog_3_method_2_code (4 : Nat) (Option.none : Option Jvm.ClassFile.FieldType)) ∈ lw_all := lw_g (lw_at lw_m1 56 rfl) rfl
theorem q188 : (Jvm.Cond.fieldLink "SecretsWorth$House" (9 : Nat) "SecretsWorth$House" "states" "I") ∈ lw_all := lw_g (lw_at lw_m1 57 rfl) rfl
theorem q189 : (Jvm.Cond.fieldLinkNest "SecretsWorth" (152 : Nat) "SecretsWorth$House" "states" "I" "SecretsWorth") ∈ lw_tbl := lw_at lw_m1 58 rfl
theorem q190 : (Jvm.Cond.fieldLink "SecretsWorth$House" (15 : Nat) "SecretsWorth$House" "parts" "I") ∈ lw_all := lw_g (lw_at lw_m1 59 rfl) rfl
theorem q191 : (Jvm.Cond.fieldLinkNest "SecretsWorth" (163 : Nat) "SecretsWorth$House" "parts" "I" "SecretsWorth") ∈ lw_tbl := lw_at lw_m1 60 rfl
theorem q192 : (Jvm.Cond.fieldLink "SecretsWorth$House" (18 : Nat) "SecretsWorth$House" "rows" "I") ∈ lw_all := lw_g (lw_at lw_m1 61 rfl) rfl
theorem q193 : (Jvm.Cond.fieldLinkNest "SecretsWorth" (168 : Nat) "SecretsWorth$House" "rows" "I" "SecretsWorth") ∈ lw_tbl := lw_at lw_m1 62 rfl
theorem q194 : (Jvm.Cond.fieldLink "SecretsWorth$House" (21 : Nat) "SecretsWorth$House" "columns" "I") ∈ lw_all := lw_g (lw_at lw_m1 63 rfl) rfl
theorem q195 : (Jvm.Cond.fieldLinkNest "SecretsWorth" (170 : Nat) "SecretsWorth$House" "columns" "I" "SecretsWorth") ∈ lw_tbl := lw_at lw_m1 64 rfl
theorem q196 : (Jvm.Cond.fieldLink "SecretsWorth$House" (48 : Nat) "SecretsWorth$House" "prior" "I") ∈ lw_all := lw_g (lw_at lw_m1 65 rfl) rfl
theorem q197 : (Jvm.Cond.fieldLinkNest "SecretsWorth" (194 : Nat) "SecretsWorth$House" "prior" "I" "SecretsWorth") ∈ lw_tbl := lw_at lw_m1 66 rfl
theorem q198 : (Jvm.Cond.fieldLink "SecretsWorth$House" (26 : Nat) "SecretsWorth$House" "games" "[[[I") ∈ lw_all := lw_g (lw_at lw_m1 67 rfl) rfl
theorem q199 : (Jvm.Cond.fieldLinkNest "SecretsWorth" (180 : Nat) "SecretsWorth$House" "games" "[[[I" "SecretsWorth") ∈ lw_tbl := lw_at lw_m1 68 rfl
theorem q200 : (Jvm.Cond.fieldLink "SecretsWorth$House" (29 : Nat) "SecretsWorth$House" "targets" "[I") ∈ lw_all := lw_g (lw_at lw_m1 69 rfl) rfl
theorem q201 : (Jvm.Cond.fieldLinkNest "SecretsWorth" (204 : Nat) "SecretsWorth$House" "targets" "[I" "SecretsWorth") ∈ lw_tbl := lw_at lw_m1 70 rfl
theorem q202 : (Jvm.Cond.fieldLink "SecretsWorth$House" (51 : Nat) "SecretsWorth$House" "tree" "LSecretsWorth$Node;") ∈ lw_all := lw_g (lw_at lw_m1 71 rfl) rfl
theorem q203 : (Jvm.Cond.fieldLinkNest "SecretsWorth" (530 : Nat) "SecretsWorth$House" "tree" "LSecretsWorth$Node;" "SecretsWorth") ∈ lw_tbl := lw_at lw_m1 72 rfl
theorem q204 : (Jvm.Cond.fieldLink "SecretsWorth$House" (35 : Nat) "SecretsWorth$House" "gives" "[[I") ∈ lw_all := lw_g (lw_at lw_m1 73 rfl) rfl
theorem q205 : (Jvm.Cond.fieldLinkNest "SecretsWorth" (207 : Nat) "SecretsWorth$House" "gives" "[[I" "SecretsWorth") ∈ lw_tbl := lw_at lw_m1 74 rfl
theorem q206 : (Jvm.Cond.fieldLink "SecretsWorth$House" (41 : Nat) "SecretsWorth$House" "many" "I") ∈ lw_all := lw_g (lw_at lw_m1 75 rfl) rfl
theorem q207 : (Jvm.Cond.fieldLinkNest "SecretsWorth" (277 : Nat) "SecretsWorth$House" "many" "I" "SecretsWorth") ∈ lw_tbl := lw_at lw_m1 76 rfl
theorem q208 : (Jvm.Cond.lays "SecretsWorth$House" "SecretsWorth$House" "states" "I") ∈ lw_all := lw_g (lw_at lw_m1 77 rfl) rfl
theorem q209 : (Jvm.Cond.soleField "SecretsWorth$House" "states") ∈ lw_all := lw_g (lw_at lw_m1 78 rfl) rfl
theorem q210 : (Jvm.Cond.lays "SecretsWorth$House" "SecretsWorth$House" "parts" "I") ∈ lw_all := lw_g (lw_at lw_m1 79 rfl) rfl
theorem q211 : (Jvm.Cond.soleField "SecretsWorth$House" "parts") ∈ lw_all := lw_g (lw_at lw_m1 80 rfl) rfl
theorem q212 : (Jvm.Cond.lays "SecretsWorth$House" "SecretsWorth$House" "rows" "I") ∈ lw_all := lw_g (lw_at lw_m1 81 rfl) rfl
theorem q213 : (Jvm.Cond.soleField "SecretsWorth$House" "rows") ∈ lw_all := lw_g (lw_at lw_m1 82 rfl) rfl
theorem q214 : (Jvm.Cond.lays "SecretsWorth$House" "SecretsWorth$House" "columns" "I") ∈ lw_all := lw_g (lw_at lw_m1 83 rfl) rfl
theorem q215 : (Jvm.Cond.soleField "SecretsWorth$House" "columns") ∈ lw_all := lw_g (lw_at lw_m1 84 rfl) rfl
theorem q216 : (Jvm.Cond.lays "SecretsWorth$House" "SecretsWorth$House" "prior" "I") ∈ lw_all := lw_g (lw_at lw_m1 85 rfl) rfl
theorem q217 : (Jvm.Cond.soleField "SecretsWorth$House" "prior") ∈ lw_all := lw_g (lw_at lw_m1 86 rfl) rfl
theorem q218 : (Jvm.Cond.laysFinal "SecretsWorth$House" "SecretsWorth$House" "games" "[[[I") ∈ lw_all := lw_g (lw_at lw_m1 87 rfl) rfl
theorem q219 : (Jvm.Cond.soleField "SecretsWorth$House" "games") ∈ lw_all := lw_g (lw_at lw_m1 88 rfl) rfl
theorem q220 : (Jvm.Cond.laysFinal "SecretsWorth$House" "SecretsWorth$House" "targets" "[I") ∈ lw_all := lw_g (lw_at lw_m1 89 rfl) rfl
theorem q221 : (Jvm.Cond.soleField "SecretsWorth$House" "targets") ∈ lw_all := lw_g (lw_at lw_m1 90 rfl) rfl
theorem q222 : (Jvm.Cond.lays "SecretsWorth$House" "SecretsWorth$House" "tree" "LSecretsWorth$Node;") ∈ lw_all := lw_g (lw_at lw_m1 91 rfl) rfl
theorem q223 : (Jvm.Cond.soleField "SecretsWorth$House" "tree") ∈ lw_all := lw_g (lw_at lw_m1 92 rfl) rfl
theorem q224 : (Jvm.Cond.laysFinal "SecretsWorth$House" "SecretsWorth$House" "gives" "[[I") ∈ lw_all := lw_g (lw_at lw_m1 93 rfl) rfl
theorem q225 : (Jvm.Cond.soleField "SecretsWorth$House" "gives") ∈ lw_all := lw_g (lw_at lw_m1 94 rfl) rfl
theorem q226 : (Jvm.Cond.lays "SecretsWorth$House" "SecretsWorth$House" "many" "I") ∈ lw_all := lw_g (lw_at lw_m1 95 rfl) rfl
theorem q227 : (Jvm.Cond.soleField "SecretsWorth$House" "many") ∈ lw_all := lw_g (lw_at lw_m1 96 rfl) rfl
theorem q228 : (Jvm.Cond.superclass "SecretsWorth$House" "java/lang/Object") ∈ lw_all := lw_g (lw_at lw_m1 97 rfl) rfl
theorem q229 : (Jvm.Cond.arrayClass Jvm.ClassFile.FieldType.int) ∈ lw_all := lw_g (lw_at lw_m1 98 rfl) rfl
theorem q230 : (Jvm.Cond.classLink "SecretsWorth" (53 : Nat) "[[J") ∈ lw_all := lw_g (lw_at lw_m1 99 rfl) rfl
theorem q231 : (Jvm.Cond.arrayOver (Jvm.ClassFile.FieldType.array Jvm.ClassFile.FieldType.long)) ∈ lw_tbl := lw_at lw_m1 100 rfl
theorem q232 : (Jvm.Cond.classLink "SecretsWorth" (77 : Nat) "SecretsWorth$Ratio") ∈ lw_all := lw_g (lw_at lw_m1 101 rfl) rfl
theorem q233 : (Jvm.Cond.arrayOver (Jvm.ClassFile.FieldType.object "SecretsWorth$Ratio")) ∈ lw_tbl := lw_at lw_m1 102 rfl
theorem q234 : (Jvm.Cond.instantiable "SecretsWorth$Ratio" (2 : Nat)) ∈ lw_all := lw_g (lw_at lw_m1 103 rfl) rfl
theorem q235 : (Jvm.Cond.methodLinkNest "SecretsWorth" (95 : Nat) ({ cls := "SecretsWorth$Ratio", name := "<init>", desc := "()V" } : Jvm.MethodName) "SecretsWorth") ∈ lw_tbl := lw_at lw_m1 104 rfl
theorem q236 : (Jvm.Cond.instanceMethod ({ cls := "SecretsWorth$Ratio", name := "<init>", desc := "()V" } : Jvm.MethodName)) ∈ lw_all := lw_g (lw_at lw_m1 105 rfl) rfl
theorem q237 : (Jvm.Cond.code ({ cls := "SecretsWorth$Ratio", name := "<init>", desc := "()V" } : Jvm.MethodName) prog_5_method_1_code (1 : Nat) (Option.none : Option Jvm.ClassFile.FieldType)) ∈ lw_all := lw_g (lw_at lw_m1 106 rfl) rfl
theorem q238 : (Jvm.Cond.methodLink "SecretsWorth$Ratio" (1 : Nat) ({ cls := "java/lang/Object", name := "<init>", desc := "()V" } : Jvm.MethodName)) ∈ lw_all := lw_g (lw_at lw_m1 107 rfl) rfl
theorem q239 : (Jvm.Cond.fieldLink "SecretsWorth$Ratio" (23 : Nat) "SecretsWorth$Ratio" "top" "J") ∈ lw_all := lw_g (lw_at lw_m1 108 rfl) rfl
theorem q240 : (Jvm.Cond.fieldLink "SecretsWorth$Ratio" (7 : Nat) "SecretsWorth$Ratio" "bottom" "J") ∈ lw_all := lw_g (lw_at lw_m1 109 rfl) rfl
theorem q241 : (Jvm.Cond.lays "SecretsWorth$Ratio" "SecretsWorth$Ratio" "top" "J") ∈ lw_all := lw_g (lw_at lw_m1 110 rfl) rfl
theorem q242 : (Jvm.Cond.soleField "SecretsWorth$Ratio" "top") ∈ lw_all := lw_g (lw_at lw_m1 111 rfl) rfl
theorem q243 : (Jvm.Cond.lays "SecretsWorth$Ratio" "SecretsWorth$Ratio" "bottom" "J") ∈ lw_all := lw_g (lw_at lw_m1 112 rfl) rfl
theorem q244 : (Jvm.Cond.soleField "SecretsWorth$Ratio" "bottom") ∈ lw_all := lw_g (lw_at lw_m1 113 rfl) rfl
theorem q245 : (Jvm.Cond.superclass "SecretsWorth$Ratio" "java/lang/Object") ∈ lw_all := lw_g (lw_at lw_m1 114 rfl) rfl
theorem q246 : (Jvm.Cond.arrayClass Jvm.ClassFile.FieldType.long) ∈ lw_all := lw_g (lw_at lw_m1 115 rfl) rfl
theorem q247 : (Jvm.Cond.stringRef "SecretsWorth" (124 : Nat) "") ∈ lw_tbl := lw_at lw_m1 116 rfl
theorem q248 : (Jvm.Cond.classLink "SecretsWorth" (133 : Nat) "SecretsWorth$Sheet") ∈ lw_all := lw_g (lw_at lw_m1 117 rfl) rfl
theorem q249 : (Jvm.Cond.arrayOver (Jvm.ClassFile.FieldType.object "SecretsWorth$Sheet")) ∈ lw_tbl := lw_at lw_m1 118 rfl
theorem q250 : (Jvm.Cond.instantiable "SecretsWorth$Sheet" (1 : Nat)) ∈ lw_all := lw_g (lw_at lw_m1 119 rfl) rfl
theorem q251 : (Jvm.Cond.methodLinkNest "SecretsWorth" (139 : Nat) ({ cls := "SecretsWorth$Sheet", name := "<init>", desc := "()V" } : Jvm.MethodName) "SecretsWorth") ∈ lw_tbl := lw_at lw_m1 120 rfl
theorem q252 : (Jvm.Cond.instanceMethod ({ cls := "SecretsWorth$Sheet", name := "<init>", desc := "()V" } : Jvm.MethodName)) ∈ lw_all := lw_g (lw_at lw_m1 121 rfl) rfl
theorem q253 : (Jvm.Cond.code ({ cls := "SecretsWorth$Sheet", name := "<init>", desc := "()V" } : Jvm.MethodName) prog_7_method_1_code (1 : Nat) (Option.none : Option Jvm.ClassFile.FieldType)) ∈ lw_all := lw_g (lw_at lw_m1 122 rfl) rfl
theorem q254 : (Jvm.Cond.methodLink "SecretsWorth$Sheet" (3 : Nat) ({ cls := "java/lang/Object", name := "<init>", desc := "()V" } : Jvm.MethodName)) ∈ lw_all := lw_g (lw_at lw_m1 123 rfl) rfl
theorem q255 : (Jvm.Cond.fieldLink "SecretsWorth$Sheet" (9 : Nat) "SecretsWorth$Sheet" "held" "Ljava/lang/Object;") ∈ lw_all := lw_g (lw_at lw_m1 124 rfl) rfl
theorem q256 : (Jvm.Cond.lays "SecretsWorth$Sheet" "SecretsWorth$Sheet" "held" "Ljava/lang/Object;") ∈ lw_all := lw_g (lw_at lw_m1 125 rfl) rfl
theorem q257 : (Jvm.Cond.soleField "SecretsWorth$Sheet" "held") ∈ lw_all := lw_g (lw_at lw_m1 126 rfl) rfl
theorem q258 : (Jvm.Cond.superclass "SecretsWorth$Sheet" "java/lang/Object") ∈ lw_all := lw_g (lw_at lw_m1 127 rfl) rfl
theorem q259 : (Jvm.Cond.arrayClass Jvm.ClassFile.FieldType.byte) ∈ lw_all := lw_g (lw_at lw_m1 128 rfl) rfl
theorem q260 : (Jvm.Cond.fieldLink "SecretsWorth" (13 : Nat) "SecretsWorth" "errors" "[I") ∈ lw_all := lw_g (lw_at lw_m1 129 rfl) rfl
theorem q261 : (Jvm.Cond.fieldLink "SecretsWorth" (40 : Nat) "SecretsWorth" "house" "LSecretsWorth$House;") ∈ lw_all := lw_g (lw_at lw_m1 130 rfl) rfl
theorem q262 : (Jvm.Cond.fieldLink "SecretsWorth" (44 : Nat) "SecretsWorth" "kept" "LSecretsWorth$House;") ∈ lw_all := lw_g (lw_at lw_m1 131 rfl) rfl
theorem q263 : (Jvm.Cond.fieldLink "SecretsWorth" (47 : Nat) "SecretsWorth" "draft" "LSecretsWorth$House;") ∈ lw_all := lw_g (lw_at lw_m1 132 rfl) rfl
theorem q264 : (Jvm.Cond.fieldLink "SecretsWorth" (691 : Nat) "SecretsWorth" "images" "I") ∈ lw_all := lw_g (lw_at lw_m1 133 rfl) rfl
theorem q265 : (Jvm.Cond.fieldLink "SecretsWorth" (688 : Nat) "SecretsWorth" "keptZ" "I") ∈ lw_all := lw_g (lw_at lw_m1 134 rfl) rfl
theorem q266 : (Jvm.Cond.fieldLink "SecretsWorth" (50 : Nat) "SecretsWorth" "z" "I") ∈ lw_all := lw_g (lw_at lw_m1 135 rfl) rfl
theorem q267 : (Jvm.Cond.fieldLink "SecretsWorth" (55 : Nat) "SecretsWorth" "table" "[[J") ∈ lw_all := lw_g (lw_at lw_m1 136 rfl) rfl
theorem q268 : (Jvm.Cond.fieldLink "SecretsWorth" (246 : Nat) "SecretsWorth" "height" "I") ∈ lw_all := lw_g (lw_at lw_m1 137 rfl) rfl
theorem q269 : (Jvm.Cond.fieldLink "SecretsWorth" (249 : Nat) "SecretsWorth" "width" "I") ∈ lw_all := lw_g (lw_at lw_m1 138 rfl) rfl
theorem q270 : (Jvm.Cond.fieldLink "SecretsWorth" (58 : Nat) "SecretsWorth" "square" "[[J") ∈ lw_all := lw_g (lw_at lw_m1 139 rfl) rfl
theorem q271 : (Jvm.Cond.fieldLink "SecretsWorth" (61 : Nat) "SecretsWorth" "minors" "[J") ∈ lw_all := lw_g (lw_at lw_m1 140 rfl) rfl
theorem q272 : (Jvm.Cond.fieldLink "SecretsWorth" (65 : Nat) "SecretsWorth" "rows" "[I") ∈ lw_all := lw_g (lw_at lw_m1 141 rfl) rfl
theorem q273 : (Jvm.Cond.fieldLink "SecretsWorth" (68 : Nat) "SecretsWorth" "columns" "[I") ∈ lw_all := lw_g (lw_at lw_m1 142 rfl) rfl
theorem q274 : (Jvm.Cond.fieldLink "SecretsWorth" (71 : Nat) "SecretsWorth" "rowWeights" "[J") ∈ lw_all := lw_g (lw_at lw_m1 143 rfl) rfl
theorem q275 : (Jvm.Cond.fieldLink "SecretsWorth" (74 : Nat) "SecretsWorth" "columnWeights" "[J") ∈ lw_all := lw_g (lw_at lw_m1 144 rfl) rfl
theorem q276 : (Jvm.Cond.fieldLink "SecretsWorth" (231 : Nat) "SecretsWorth" "whole" "J") ∈ lw_all := lw_g (lw_at lw_m1 145 rfl) rfl
theorem q277 : (Jvm.Cond.fieldLink "SecretsWorth" (237 : Nat) "SecretsWorth" "worth" "J") ∈ lw_all := lw_g (lw_at lw_m1 146 rfl) rfl
theorem q278 : (Jvm.Cond.fieldLink "SecretsWorth" (79 : Nat) "SecretsWorth" "worths" "[LSecretsWorth$Ratio;") ∈ lw_all := lw_g (lw_at lw_m1 147 rfl) rfl
theorem q279 : (Jvm.Cond.fieldLink "SecretsWorth" (83 : Nat) "SecretsWorth" "weights" "[LSecretsWorth$Ratio;") ∈ lw_all := lw_g (lw_at lw_m1 148 rfl) rfl
theorem q280 : (Jvm.Cond.fieldLink "SecretsWorth" (86 : Nat) "SecretsWorth" "bestWeights" "[LSecretsWorth$Ratio;") ∈ lw_all := lw_g (lw_at lw_m1 149 rfl) rfl
theorem q281 : (Jvm.Cond.fieldLink "SecretsWorth" (89 : Nat) "SecretsWorth" "set" "[I") ∈ lw_all := lw_g (lw_at lw_m1 150 rfl) rfl
theorem q282 : (Jvm.Cond.fieldLink "SecretsWorth" (92 : Nat) "SecretsWorth" "best" "[I") ∈ lw_all := lw_g (lw_at lw_m1 151 rfl) rfl
theorem q283 : (Jvm.Cond.fieldLink "SecretsWorth" (315 : Nat) "SecretsWorth" "bestMany" "I") ∈ lw_all := lw_g (lw_at lw_m1 152 rfl) rfl
theorem q284 : (Jvm.Cond.fieldLink "SecretsWorth" (96 : Nat) "SecretsWorth" "nought" "LSecretsWorth$Ratio;") ∈ lw_all := lw_g (lw_at lw_m1 153 rfl) rfl
theorem q285 : (Jvm.Cond.fieldLink "SecretsWorth" (100 : Nat) "SecretsWorth" "mix" "LSecretsWorth$Ratio;") ∈ lw_all := lw_g (lw_at lw_m1 154 rfl) rfl
theorem q286 : (Jvm.Cond.fieldLink "SecretsWorth" (103 : Nat) "SecretsWorth" "hull" "LSecretsWorth$Ratio;") ∈ lw_all := lw_g (lw_at lw_m1 155 rfl) rfl
theorem q287 : (Jvm.Cond.fieldLink "SecretsWorth" (106 : Nat) "SecretsWorth" "a" "LSecretsWorth$Ratio;") ∈ lw_all := lw_g (lw_at lw_m1 156 rfl) rfl
theorem q288 : (Jvm.Cond.fieldLink "SecretsWorth" (109 : Nat) "SecretsWorth" "b" "LSecretsWorth$Ratio;") ∈ lw_all := lw_g (lw_at lw_m1 157 rfl) rfl
theorem q289 : (Jvm.Cond.fieldLink "SecretsWorth" (112 : Nat) "SecretsWorth" "answer" "LSecretsWorth$Ratio;") ∈ lw_all := lw_g (lw_at lw_m1 158 rfl) rfl
theorem q290 : (Jvm.Cond.fieldLink "SecretsWorth" (115 : Nat) "SecretsWorth" "alone" "LSecretsWorth$Ratio;") ∈ lw_all := lw_g (lw_at lw_m1 159 rfl) rfl
theorem q291 : (Jvm.Cond.fieldLink "SecretsWorth" (118 : Nat) "SecretsWorth" "above" "LSecretsWorth$Ratio;") ∈ lw_all := lw_g (lw_at lw_m1 160 rfl) rfl
theorem q292 : (Jvm.Cond.fieldLink "SecretsWorth" (121 : Nat) "SecretsWorth" "tape" "[I") ∈ lw_all := lw_g (lw_at lw_m1 161 rfl) rfl
theorem q293 : (Jvm.Cond.fieldLink "SecretsWorth" (410 : Nat) "SecretsWorth" "taped" "I") ∈ lw_all := lw_g (lw_at lw_m1 162 rfl) rfl
theorem q294 : (Jvm.Cond.fieldLink "SecretsWorth" (413 : Nat) "SecretsWorth" "at" "I") ∈ lw_all := lw_g (lw_at lw_m1 163 rfl) rfl
theorem q295 : (Jvm.Cond.fieldLink "SecretsWorth" (419 : Nat) "SecretsWorth" "begun" "I") ∈ lw_all := lw_g (lw_at lw_m1 164 rfl) rfl
theorem q296 : (Jvm.Cond.fieldLink "SecretsWorth" (422 : Nat) "SecretsWorth" "word" "Ljava/lang/String;") ∈ lw_all := lw_g (lw_at lw_m1 165 rfl) rfl
theorem q297 : (Jvm.Cond.fieldLink "SecretsWorth" (426 : Nat) "SecretsWorth" "number" "I") ∈ lw_all := lw_g (lw_at lw_m1 166 rfl) rfl
theorem q298 : (Jvm.Cond.fieldLink "SecretsWorth" (429 : Nat) "SecretsWorth" "sign" "I") ∈ lw_all := lw_g (lw_at lw_m1 167 rfl) rfl
theorem q299 : (Jvm.Cond.fieldLink "SecretsWorth" (490 : Nat) "SecretsWorth" "nodes" "I") ∈ lw_all := lw_g (lw_at lw_m1 168 rfl) rfl
theorem q300 : (Jvm.Cond.fieldLink "SecretsWorth" (462 : Nat) "SecretsWorth" "open" "I") ∈ lw_all := lw_g (lw_at lw_m1 169 rfl) rfl
theorem q301 : (Jvm.Cond.fieldLink "SecretsWorth" (524 : Nat) "SecretsWorth" "endsPlay" "Z") ∈ lw_all := lw_g (lw_at lw_m1 170 rfl) rfl
theorem q302 : (Jvm.Cond.fieldLink "SecretsWorth" (126 : Nat) "SecretsWorth" "line" "Ljava/lang/CharSequence;") ∈ lw_all := lw_g (lw_at lw_m1 171 rfl) rfl
theorem q303 : (Jvm.Cond.fieldLink "SecretsWorth" (157 : Nat) "SecretsWorth" "isPlayed" "Z") ∈ lw_all := lw_g (lw_at lw_m1 172 rfl) rfl
theorem q304 : (Jvm.Cond.fieldLink "SecretsWorth" (622 : Nat) "SecretsWorth" "rounds" "I") ∈ lw_all := lw_g (lw_at lw_m1 173 rfl) rfl
theorem q305 : (Jvm.Cond.fieldLink "SecretsWorth" (130 : Nat) "SecretsWorth" "sums" "[I") ∈ lw_all := lw_g (lw_at lw_m1 174 rfl) rfl
theorem q306 : (Jvm.Cond.fieldLink "SecretsWorth" (627 : Nat) "SecretsWorth" "lastColumn" "I") ∈ lw_all := lw_g (lw_at lw_m1 175 rfl) rfl
theorem q307 : (Jvm.Cond.fieldLink "SecretsWorth" (623 : Nat) "SecretsWorth" "was" "LSecretsWorth$Was;") ∈ lw_all := lw_g (lw_at lw_m1 176 rfl) rfl
theorem q308 : (Jvm.Cond.fieldLink "SecretsWorth" (135 : Nat) "SecretsWorth" "sheets" "[LSecretsWorth$Sheet;") ∈ lw_all := lw_g (lw_at lw_m1 177 rfl) rfl
theorem q309 : (Jvm.Cond.laysFinal "SecretsWorth" "SecretsWorth" "errors" "[I") ∈ lw_all := lw_g (lw_at lw_m1 178 rfl) rfl
theorem q310 : (Jvm.Cond.soleField "SecretsWorth" "errors") ∈ lw_all := lw_g (lw_at lw_m1 179 rfl) rfl
theorem q311 : (Jvm.Cond.laysFinal "SecretsWorth" "SecretsWorth" "house" "LSecretsWorth$House;") ∈ lw_all := lw_g (lw_at lw_m1 180 rfl) rfl
theorem q312 : (Jvm.Cond.soleField "SecretsWorth" "house") ∈ lw_all := lw_g (lw_at lw_m1 181 rfl) rfl
theorem q313 : (Jvm.Cond.laysFinal "SecretsWorth" "SecretsWorth" "kept" "LSecretsWorth$House;") ∈ lw_all := lw_g (lw_at lw_m1 182 rfl) rfl
theorem q314 : (Jvm.Cond.soleField "SecretsWorth" "kept") ∈ lw_all := lw_g (lw_at lw_m1 183 rfl) rfl
theorem q315 : (Jvm.Cond.laysFinal "SecretsWorth" "SecretsWorth" "draft" "LSecretsWorth$House;") ∈ lw_all := lw_g (lw_at lw_m1 184 rfl) rfl
theorem q316 : (Jvm.Cond.soleField "SecretsWorth" "draft") ∈ lw_all := lw_g (lw_at lw_m1 185 rfl) rfl
theorem q317 : (Jvm.Cond.lays "SecretsWorth" "SecretsWorth" "images" "I") ∈ lw_all := lw_g (lw_at lw_m1 186 rfl) rfl
theorem q318 : (Jvm.Cond.soleField "SecretsWorth" "images") ∈ lw_all := lw_g (lw_at lw_m1 187 rfl) rfl
theorem q319 : (Jvm.Cond.lays "SecretsWorth" "SecretsWorth" "keptZ" "I") ∈ lw_all := lw_g (lw_at lw_m1 188 rfl) rfl
theorem q320 : (Jvm.Cond.soleField "SecretsWorth" "keptZ") ∈ lw_all := lw_g (lw_at lw_m1 189 rfl) rfl
theorem q321 : (Jvm.Cond.lays "SecretsWorth" "SecretsWorth" "z" "I") ∈ lw_all := lw_g (lw_at lw_m1 190 rfl) rfl
theorem q322 : (Jvm.Cond.soleField "SecretsWorth" "z") ∈ lw_all := lw_g (lw_at lw_m1 191 rfl) rfl
theorem q323 : (Jvm.Cond.laysFinal "SecretsWorth" "SecretsWorth" "table" "[[J") ∈ lw_all := lw_g (lw_at lw_m1 192 rfl) rfl
theorem q324 : (Jvm.Cond.soleField "SecretsWorth" "table") ∈ lw_all := lw_g (lw_at lw_m1 193 rfl) rfl
theorem q325 : (Jvm.Cond.lays "SecretsWorth" "SecretsWorth" "height" "I") ∈ lw_all := lw_g (lw_at lw_m1 194 rfl) rfl
theorem q326 : (Jvm.Cond.soleField "SecretsWorth" "height") ∈ lw_all := lw_g (lw_at lw_m1 195 rfl) rfl
theorem q327 : (Jvm.Cond.lays "SecretsWorth" "SecretsWorth" "width" "I") ∈ lw_all := lw_g (lw_at lw_m1 196 rfl) rfl
theorem q328 : (Jvm.Cond.soleField "SecretsWorth" "width") ∈ lw_all := lw_g (lw_at lw_m1 197 rfl) rfl
theorem q329 : (Jvm.Cond.laysFinal "SecretsWorth" "SecretsWorth" "square" "[[J") ∈ lw_all := lw_g (lw_at lw_m1 198 rfl) rfl
theorem q330 : (Jvm.Cond.soleField "SecretsWorth" "square") ∈ lw_all := lw_g (lw_at lw_m1 199 rfl) rfl
theorem q331 : (Jvm.Cond.laysFinal "SecretsWorth" "SecretsWorth" "minors" "[J") ∈ lw_all := lw_g (lw_at lw_m1 200 rfl) rfl
theorem q332 : (Jvm.Cond.soleField "SecretsWorth" "minors") ∈ lw_all := lw_g (lw_at lw_m1 201 rfl) rfl
theorem q333 : (Jvm.Cond.laysFinal "SecretsWorth" "SecretsWorth" "rows" "[I") ∈ lw_all := lw_g (lw_at lw_m1 202 rfl) rfl
theorem q334 : (Jvm.Cond.soleField "SecretsWorth" "rows") ∈ lw_all := lw_g (lw_at lw_m1 203 rfl) rfl
theorem q335 : (Jvm.Cond.laysFinal "SecretsWorth" "SecretsWorth" "columns" "[I") ∈ lw_all := lw_g (lw_at lw_m1 204 rfl) rfl
theorem q336 : (Jvm.Cond.soleField "SecretsWorth" "columns") ∈ lw_all := lw_g (lw_at lw_m1 205 rfl) rfl
theorem q337 : (Jvm.Cond.laysFinal "SecretsWorth" "SecretsWorth" "rowWeights" "[J") ∈ lw_all := lw_g (lw_at lw_m1 206 rfl) rfl
theorem q338 : (Jvm.Cond.soleField "SecretsWorth" "rowWeights") ∈ lw_all := lw_g (lw_at lw_m1 207 rfl) rfl
theorem q339 : (Jvm.Cond.laysFinal "SecretsWorth" "SecretsWorth" "columnWeights" "[J") ∈ lw_all := lw_g (lw_at lw_m1 208 rfl) rfl
theorem q340 : (Jvm.Cond.soleField "SecretsWorth" "columnWeights") ∈ lw_all := lw_g (lw_at lw_m1 209 rfl) rfl
theorem q341 : (Jvm.Cond.lays "SecretsWorth" "SecretsWorth" "whole" "J") ∈ lw_all := lw_g (lw_at lw_m1 210 rfl) rfl
theorem q342 : (Jvm.Cond.soleField "SecretsWorth" "whole") ∈ lw_all := lw_g (lw_at lw_m1 211 rfl) rfl
theorem q343 : (Jvm.Cond.lays "SecretsWorth" "SecretsWorth" "worth" "J") ∈ lw_all := lw_g (lw_at lw_m1 212 rfl) rfl
theorem q344 : (Jvm.Cond.soleField "SecretsWorth" "worth") ∈ lw_all := lw_g (lw_at lw_m1 213 rfl) rfl
theorem q345 : (Jvm.Cond.laysFinal "SecretsWorth" "SecretsWorth" "worths" "[LSecretsWorth$Ratio;") ∈ lw_all := lw_g (lw_at lw_m1 214 rfl) rfl
theorem q346 : (Jvm.Cond.soleField "SecretsWorth" "worths") ∈ lw_all := lw_g (lw_at lw_m1 215 rfl) rfl
theorem q347 : (Jvm.Cond.laysFinal "SecretsWorth" "SecretsWorth" "weights" "[LSecretsWorth$Ratio;") ∈ lw_all := lw_g (lw_at lw_m1 216 rfl) rfl
theorem q348 : (Jvm.Cond.soleField "SecretsWorth" "weights") ∈ lw_all := lw_g (lw_at lw_m1 217 rfl) rfl
theorem q349 : (Jvm.Cond.laysFinal "SecretsWorth" "SecretsWorth" "bestWeights" "[LSecretsWorth$Ratio;") ∈ lw_all := lw_g (lw_at lw_m1 218 rfl) rfl
theorem q350 : (Jvm.Cond.soleField "SecretsWorth" "bestWeights") ∈ lw_all := lw_g (lw_at lw_m1 219 rfl) rfl
theorem q351 : (Jvm.Cond.laysFinal "SecretsWorth" "SecretsWorth" "set" "[I") ∈ lw_all := lw_g (lw_at lw_m1 220 rfl) rfl
theorem q352 : (Jvm.Cond.soleField "SecretsWorth" "set") ∈ lw_all := lw_g (lw_at lw_m1 221 rfl) rfl
theorem q353 : (Jvm.Cond.laysFinal "SecretsWorth" "SecretsWorth" "best" "[I") ∈ lw_all := lw_g (lw_at lw_m1 222 rfl) rfl
theorem q354 : (Jvm.Cond.soleField "SecretsWorth" "best") ∈ lw_all := lw_g (lw_at lw_m1 223 rfl) rfl
theorem q355 : (Jvm.Cond.lays "SecretsWorth" "SecretsWorth" "bestMany" "I") ∈ lw_all := lw_g (lw_at lw_m1 224 rfl) rfl
theorem q356 : (Jvm.Cond.soleField "SecretsWorth" "bestMany") ∈ lw_all := lw_g (lw_at lw_m1 225 rfl) rfl
theorem q357 : (Jvm.Cond.laysFinal "SecretsWorth" "SecretsWorth" "nought" "LSecretsWorth$Ratio;") ∈ lw_all := lw_g (lw_at lw_m1 226 rfl) rfl
theorem q358 : (Jvm.Cond.soleField "SecretsWorth" "nought") ∈ lw_all := lw_g (lw_at lw_m1 227 rfl) rfl
theorem q359 : (Jvm.Cond.laysFinal "SecretsWorth" "SecretsWorth" "mix" "LSecretsWorth$Ratio;") ∈ lw_all := lw_g (lw_at lw_m1 228 rfl) rfl
theorem q360 : (Jvm.Cond.soleField "SecretsWorth" "mix") ∈ lw_all := lw_g (lw_at lw_m1 229 rfl) rfl
theorem q361 : (Jvm.Cond.laysFinal "SecretsWorth" "SecretsWorth" "hull" "LSecretsWorth$Ratio;") ∈ lw_all := lw_g (lw_at lw_m1 230 rfl) rfl
theorem q362 : (Jvm.Cond.soleField "SecretsWorth" "hull") ∈ lw_all := lw_g (lw_at lw_m1 231 rfl) rfl
theorem q363 : (Jvm.Cond.laysFinal "SecretsWorth" "SecretsWorth" "a" "LSecretsWorth$Ratio;") ∈ lw_all := lw_g (lw_at lw_m1 232 rfl) rfl
theorem q364 : (Jvm.Cond.soleField "SecretsWorth" "a") ∈ lw_all := lw_g (lw_at lw_m1 233 rfl) rfl
theorem q365 : (Jvm.Cond.laysFinal "SecretsWorth" "SecretsWorth" "b" "LSecretsWorth$Ratio;") ∈ lw_all := lw_g (lw_at lw_m1 234 rfl) rfl
theorem q366 : (Jvm.Cond.soleField "SecretsWorth" "b") ∈ lw_all := lw_g (lw_at lw_m1 235 rfl) rfl
theorem q367 : (Jvm.Cond.laysFinal "SecretsWorth" "SecretsWorth" "answer" "LSecretsWorth$Ratio;") ∈ lw_all := lw_g (lw_at lw_m1 236 rfl) rfl
theorem q368 : (Jvm.Cond.soleField "SecretsWorth" "answer") ∈ lw_all := lw_g (lw_at lw_m1 237 rfl) rfl
theorem q369 : (Jvm.Cond.laysFinal "SecretsWorth" "SecretsWorth" "alone" "LSecretsWorth$Ratio;") ∈ lw_all := lw_g (lw_at lw_m1 238 rfl) rfl
theorem q370 : (Jvm.Cond.soleField "SecretsWorth" "alone") ∈ lw_all := lw_g (lw_at lw_m1 239 rfl) rfl
theorem q371 : (Jvm.Cond.laysFinal "SecretsWorth" "SecretsWorth" "above" "LSecretsWorth$Ratio;") ∈ lw_all := lw_g (lw_at lw_m2 0 rfl) rfl
theorem q372 : (Jvm.Cond.soleField "SecretsWorth" "above") ∈ lw_all := lw_g (lw_at lw_m2 1 rfl) rfl
theorem q373 : (Jvm.Cond.laysFinal "SecretsWorth" "SecretsWorth" "tape" "[I") ∈ lw_all := lw_g (lw_at lw_m2 2 rfl) rfl
theorem q374 : (Jvm.Cond.soleField "SecretsWorth" "tape") ∈ lw_all := lw_g (lw_at lw_m2 3 rfl) rfl
theorem q375 : (Jvm.Cond.lays "SecretsWorth" "SecretsWorth" "taped" "I") ∈ lw_all := lw_g (lw_at lw_m2 4 rfl) rfl
theorem q376 : (Jvm.Cond.soleField "SecretsWorth" "taped") ∈ lw_all := lw_g (lw_at lw_m2 5 rfl) rfl
theorem q377 : (Jvm.Cond.lays "SecretsWorth" "SecretsWorth" "at" "I") ∈ lw_all := lw_g (lw_at lw_m2 6 rfl) rfl
theorem q378 : (Jvm.Cond.soleField "SecretsWorth" "at") ∈ lw_all := lw_g (lw_at lw_m2 7 rfl) rfl
theorem q379 : (Jvm.Cond.lays "SecretsWorth" "SecretsWorth" "begun" "I") ∈ lw_all := lw_g (lw_at lw_m2 8 rfl) rfl
theorem q380 : (Jvm.Cond.soleField "SecretsWorth" "begun") ∈ lw_all := lw_g (lw_at lw_m2 9 rfl) rfl
theorem q381 : (Jvm.Cond.lays "SecretsWorth" "SecretsWorth" "word" "Ljava/lang/String;") ∈ lw_all := lw_g (lw_at lw_m2 10 rfl) rfl
theorem q382 : (Jvm.Cond.soleField "SecretsWorth" "word") ∈ lw_all := lw_g (lw_at lw_m2 11 rfl) rfl
theorem q383 : (Jvm.Cond.lays "SecretsWorth" "SecretsWorth" "number" "I") ∈ lw_all := lw_g (lw_at lw_m2 12 rfl) rfl
theorem q384 : (Jvm.Cond.soleField "SecretsWorth" "number") ∈ lw_all := lw_g (lw_at lw_m2 13 rfl) rfl
theorem q385 : (Jvm.Cond.lays "SecretsWorth" "SecretsWorth" "sign" "I") ∈ lw_all := lw_g (lw_at lw_m2 14 rfl) rfl
theorem q386 : (Jvm.Cond.soleField "SecretsWorth" "sign") ∈ lw_all := lw_g (lw_at lw_m2 15 rfl) rfl
theorem q387 : (Jvm.Cond.lays "SecretsWorth" "SecretsWorth" "nodes" "I") ∈ lw_all := lw_g (lw_at lw_m2 16 rfl) rfl
theorem q388 : (Jvm.Cond.soleField "SecretsWorth" "nodes") ∈ lw_all := lw_g (lw_at lw_m2 17 rfl) rfl
theorem q389 : (Jvm.Cond.lays "SecretsWorth" "SecretsWorth" "open" "I") ∈ lw_all := lw_g (lw_at lw_m2 18 rfl) rfl
theorem q390 : (Jvm.Cond.soleField "SecretsWorth" "open") ∈ lw_all := lw_g (lw_at lw_m2 19 rfl) rfl
theorem q391 : (Jvm.Cond.lays "SecretsWorth" "SecretsWorth" "endsPlay" "Z") ∈ lw_all := lw_g (lw_at lw_m2 20 rfl) rfl
theorem q392 : (Jvm.Cond.soleField "SecretsWorth" "endsPlay") ∈ lw_all := lw_g (lw_at lw_m2 21 rfl) rfl
theorem q393 : (Jvm.Cond.lays "SecretsWorth" "SecretsWorth" "line" "Ljava/lang/CharSequence;") ∈ lw_all := lw_g (lw_at lw_m2 22 rfl) rfl
theorem q394 : (Jvm.Cond.soleField "SecretsWorth" "line") ∈ lw_all := lw_g (lw_at lw_m2 23 rfl) rfl
theorem q395 : (Jvm.Cond.lays "SecretsWorth" "SecretsWorth" "isPlayed" "Z") ∈ lw_all := lw_g (lw_at lw_m2 24 rfl) rfl
theorem q396 : (Jvm.Cond.soleField "SecretsWorth" "isPlayed") ∈ lw_all := lw_g (lw_at lw_m2 25 rfl) rfl
theorem q397 : (Jvm.Cond.lays "SecretsWorth" "SecretsWorth" "rounds" "I") ∈ lw_all := lw_g (lw_at lw_m2 26 rfl) rfl
theorem q398 : (Jvm.Cond.soleField "SecretsWorth" "rounds") ∈ lw_all := lw_g (lw_at lw_m2 27 rfl) rfl
theorem q399 : (Jvm.Cond.laysFinal "SecretsWorth" "SecretsWorth" "sums" "[I") ∈ lw_all := lw_g (lw_at lw_m2 28 rfl) rfl
theorem q400 : (Jvm.Cond.soleField "SecretsWorth" "sums") ∈ lw_all := lw_g (lw_at lw_m2 29 rfl) rfl
theorem q401 : (Jvm.Cond.lays "SecretsWorth" "SecretsWorth" "lastColumn" "I") ∈ lw_all := lw_g (lw_at lw_m2 30 rfl) rfl
theorem q402 : (Jvm.Cond.soleField "SecretsWorth" "lastColumn") ∈ lw_all := lw_g (lw_at lw_m2 31 rfl) rfl
theorem q403 : (Jvm.Cond.lays "SecretsWorth" "SecretsWorth" "was" "LSecretsWorth$Was;") ∈ lw_all := lw_g (lw_at lw_m2 32 rfl) rfl
theorem q404 : (Jvm.Cond.soleField "SecretsWorth" "was") ∈ lw_all := lw_g (lw_at lw_m2 33 rfl) rfl
theorem q405 : (Jvm.Cond.laysFinal "SecretsWorth" "SecretsWorth" "sheets" "[LSecretsWorth$Sheet;") ∈ lw_all := lw_g (lw_at lw_m2 34 rfl) rfl
theorem q406 : (Jvm.Cond.soleField "SecretsWorth" "sheets") ∈ lw_all := lw_g (lw_at lw_m2 35 rfl) rfl
theorem q407 : (Jvm.Cond.superclass "SecretsWorth" "java/lang/Object") ∈ lw_all := lw_g (lw_at lw_m2 36 rfl) rfl
theorem q408 : (Jvm.Cond.methodLink "SecretsWorthLaw" (13 : Nat) ({ cls := "SecretsWorth", name := "states", desc := "(I)I" } : Jvm.MethodName)) ∈ lw_all := lw_g (lw_at lw_m2 37 rfl) rfl
theorem q409 : (Jvm.Cond.instanceMethod ({ cls := "SecretsWorth", name := "states", desc := "(I)I" } : Jvm.MethodName)) ∈ lw_all := lw_g (lw_at lw_m2 38 rfl) rfl
theorem q410 : (Jvm.Cond.selects "SecretsWorth" ({ cls := "SecretsWorth", name := "states", desc := "(I)I" } : Jvm.MethodName) ({ cls := "SecretsWorth", name := "states", desc := "(I)I" } : Jvm.MethodName)) ∈ lw_all := lw_g (lw_at lw_m2 39 rfl) rfl
theorem q411 : (Jvm.Cond.codeWith ({ cls := "SecretsWorth", name := "states", desc := "(I)I" } : Jvm.MethodName) prog_1_method_11_code (3 : Nat) (Option.some Jvm.ClassFile.FieldType.int) [((0 : Nat), (36 : Nat), (37 : Nat), (1 : Nat))]) ∈ lw_all := lw_g (lw_at lw_m2 40 rfl) rfl
theorem q412 : (Jvm.Cond.classLink "SecretsWorth" (1 : Nat) "SecretsWorth$Wrong") ∈ lw_all := lw_g (lw_at lw_m2 41 rfl) rfl
theorem q413 : (Jvm.Cond.constantLong "SecretsWorth" (144 : Nat) (2 : Int64)) ∈ lw_all := lw_g (lw_at lw_m2 42 rfl) rfl
theorem q414 : (Jvm.Cond.constantLong "SecretsWorth" (146 : Nat) (3 : Int64)) ∈ lw_all := lw_g (lw_at lw_m2 43 rfl) rfl
theorem q415 : (Jvm.Cond.methodLink "SecretsWorth" (140 : Nat) ({ cls := "SecretsWorth", name := "in", desc := "(JJJ)Z" } : Jvm.MethodName)) ∈ lw_all := lw_g (lw_at lw_m2 44 rfl) rfl
theorem q416 : (Jvm.Cond.static ({ cls := "SecretsWorth", name := "in", desc := "(JJJ)Z" } : Jvm.MethodName)) ∈ lw_all := lw_g (lw_at lw_m2 45 rfl) rfl
theorem q417 : (Jvm.Cond.code ({ cls := "SecretsWorth", name := "in", desc := "(JJJ)Z" } : Jvm.MethodName) prog_1_method_1_code (6 : Nat) (Option.some Jvm.ClassFile.FieldType.boolean)) ∈ lw_all := lw_g (lw_at lw_m2 46 rfl) rfl
theorem q418 : (Jvm.Cond.methodLink "SecretsWorth" (148 : Nat) ({ cls := "SecretsWorth", name := "must", desc := "(Z)V" } : Jvm.MethodName)) ∈ lw_all := lw_g (lw_at lw_m2 47 rfl) rfl
theorem q419 : (Jvm.Cond.static ({ cls := "SecretsWorth", name := "must", desc := "(Z)V" } : Jvm.MethodName)) ∈ lw_all := lw_g (lw_at lw_m2 48 rfl) rfl
theorem q420 : (Jvm.Cond.code ({ cls := "SecretsWorth", name := "must", desc := "(Z)V" } : Jvm.MethodName) prog_1_method_3_code (1 : Nat) (Option.none : Option Jvm.ClassFile.FieldType)) ∈ lw_all := lw_g (lw_at lw_m2 49 rfl) rfl
theorem q421 : (Jvm.Cond.methodLink "SecretsWorth" (9 : Nat) ({ cls := "SecretsWorth", name := "need", desc := "(ZI)V" } : Jvm.MethodName)) ∈ lw_all := lw_g (lw_at lw_m2 50 rfl) rfl
theorem q422 : (Jvm.Cond.static ({ cls := "SecretsWorth", name := "need", desc := "(ZI)V" } : Jvm.MethodName)) ∈ lw_all := lw_g (lw_at lw_m2 51 rfl) rfl
theorem q423 : (Jvm.Cond.code ({ cls := "SecretsWorth", name := "need", desc := "(ZI)V" } : Jvm.MethodName) prog_1_method_2_code (2 : Nat) (Option.none : Option Jvm.ClassFile.FieldType)) ∈ lw_all := lw_g (lw_at lw_m2 52 rfl) rfl
theorem q424 : (Jvm.Cond.instantiable "SecretsWorth$Wrong" (7 : Nat)) ∈ lw_all := lw_g (lw_at lw_m2 53 rfl) rfl
theorem q425 : (Jvm.Cond.castable "SecretsWorth$Wrong" "SecretsWorth$Wrong") ∈ lw_tbl := lw_at lw_m2 54 rfl
theorem q426 : (Jvm.Cond.declares ({ cls := "java/lang/RuntimeException", name := "<init>", desc := "()V" } : Jvm.MethodName)) ∈ lw_tbl := lw_at lw_m2 55 rfl
theorem q427 : (Jvm.Cond.declares ({ cls := "java/lang/RuntimeException", name := "<init>", desc := "(Ljava/lang/String;)V" } : Jvm.MethodName)) ∈ lw_tbl := lw_at lw_m2 56 rfl
theorem q428 : (Jvm.Cond.declares ({ cls := "java/lang/Exception", name := "<init>", desc := "()V" } : Jvm.MethodName)) ∈ lw_tbl := lw_at lw_m2 57 rfl
theorem q429 : (Jvm.Cond.declares ({ cls := "java/lang/Exception", name := "<init>", desc := "(Ljava/lang/String;)V" } : Jvm.MethodName)) ∈ lw_tbl := lw_at lw_m2 58 rfl
theorem q430 : (Jvm.Cond.declares ({ cls := "java/lang/Throwable", name := "<init>", desc := "()V" } : Jvm.MethodName)) ∈ lw_tbl := lw_at lw_m2 59 rfl
theorem q431 : (Jvm.Cond.declares ({ cls := "java/lang/Throwable", name := "<init>", desc := "(Ljava/lang/String;)V" } : Jvm.MethodName)) ∈ lw_tbl := lw_at lw_m2 60 rfl
theorem q432 : (Jvm.Cond.selects "SecretsWorth$Wrong" ({ cls := "java/lang/Throwable", name := "fillInStackTrace", desc := "(I)Ljava/lang/Throwable;" } : Jvm.MethodName) ({ cls := "java/lang/Throwable", name := "fillInStackTrace", desc := "(I)Ljava/lang/Throwable;" } : Jvm.MethodName)) ∈ lw_all := lw_g (lw_at lw_m2 61 rfl) rfl
theorem q433 : (Jvm.Cond.selects "SecretsWorth$Wrong" ({ cls := "java/lang/Throwable", name := "fillInStackTrace", desc := "()Ljava/lang/Throwable;" } : Jvm.MethodName) ({ cls := "java/lang/Throwable", name := "fillInStackTrace", desc := "()Ljava/lang/Throwable;" } : Jvm.MethodName)) ∈ lw_all := lw_g (lw_at lw_m2 62 rfl) rfl
theorem q434 : (Jvm.Cond.lays "SecretsWorth$Wrong" "java/lang/Throwable" "cause" "Ljava/lang/Throwable;") ∈ lw_all := lw_g (lw_at lw_m2 63 rfl) rfl
theorem q435 : (Jvm.Cond.lays "java/lang/Throwable" "java/lang/Throwable" "cause" "Ljava/lang/Throwable;") ∈ lw_all := lw_g (lw_at lw_m2 64 rfl) rfl
theorem q436 : (Jvm.Cond.lays "SecretsWorth$Wrong" "java/lang/Throwable" "stackTrace" "[Ljava/lang/StackTraceElement;") ∈ lw_all := lw_g (lw_at lw_m2 65 rfl) rfl
theorem q437 : (Jvm.Cond.lays "java/lang/Throwable" "java/lang/Throwable" "stackTrace" "[Ljava/lang/StackTraceElement;") ∈ lw_all := lw_g (lw_at lw_m2 66 rfl) rfl
theorem q438 : (Jvm.Cond.lays "SecretsWorth$Wrong" "java/lang/Throwable" "suppressedExceptions" "Ljava/util/List;") ∈ lw_all := lw_g (lw_at lw_m2 67 rfl) rfl
theorem q439 : (Jvm.Cond.lays "java/lang/Throwable" "java/lang/Throwable" "suppressedExceptions" "Ljava/util/List;") ∈ lw_all := lw_g (lw_at lw_m2 68 rfl) rfl
theorem q440 : (Jvm.Cond.lays "SecretsWorth$Wrong" "java/lang/Throwable" "detailMessage" "Ljava/lang/String;") ∈ lw_all := lw_g (lw_at lw_m2 69 rfl) rfl
theorem q441 : (Jvm.Cond.lays "java/lang/Throwable" "java/lang/Throwable" "detailMessage" "Ljava/lang/String;") ∈ lw_all := lw_g (lw_at lw_m2 70 rfl) rfl
theorem q442 : (Jvm.Cond.lays "SecretsWorth$Wrong" "java/lang/Throwable" "backtrace" "Ljava/lang/Object;") ∈ lw_all := lw_g (lw_at lw_m2 71 rfl) rfl
theorem q443 : (Jvm.Cond.lays "java/lang/Throwable" "java/lang/Throwable" "backtrace" "Ljava/lang/Object;") ∈ lw_all := lw_g (lw_at lw_m2 72 rfl) rfl
theorem q444 : (Jvm.Cond.fieldLink "java/lang/Throwable" (198 : Nat) "java/lang/Throwable" "backtrace" "Ljava/lang/Object;") ∈ lw_all := lw_g (lw_at lw_m2 73 rfl) rfl
theorem q445 : (Jvm.Cond.superclass "java/lang/Throwable" "java/lang/Object") ∈ lw_all := lw_g (lw_at lw_m2 74 rfl) rfl
theorem q446 : (Jvm.Cond.instanceMethod ({ cls := "java/lang/Throwable", name := "<init>", desc := "()V" } : Jvm.MethodName)) ∈ lw_all := lw_g (lw_at lw_m2 75 rfl) rfl
theorem q447 : (Jvm.Cond.code ({ cls := "java/lang/Throwable", name := "<init>", desc := "()V" } : Jvm.MethodName) prog_31_method_1_code (1 : Nat) (Option.none : Option Jvm.ClassFile.FieldType)) ∈ lw_all := lw_g (lw_at lw_m2 76 rfl) rfl
theorem q448 : (Jvm.Cond.methodLink "java/lang/Throwable" (1 : Nat) ({ cls := "java/lang/Object", name := "<init>", desc := "()V" } : Jvm.MethodName)) ∈ lw_all := lw_g (lw_at lw_m2 77 rfl) rfl
theorem q449 : (Jvm.Cond.fieldLink "java/lang/Throwable" (13 : Nat) "java/lang/Throwable" "UNASSIGNED_STACK" "[Ljava/lang/StackTraceElement;") ∈ lw_all := lw_g (lw_at lw_m2 78 rfl) rfl
theorem q450 : (Jvm.Cond.laysStatic "java/lang/Throwable" "UNASSIGNED_STACK" "[Ljava/lang/StackTraceElement;") ∈ lw_tbl := lw_at lw_m2 79 rfl
theorem q451 : (Jvm.Cond.fieldLink "java/lang/Throwable" (20 : Nat) "java/lang/Throwable" "SUPPRESSED_SENTINEL" "Ljava/util/List;") ∈ lw_all := lw_g (lw_at lw_m2 80 rfl) rfl
theorem q452 : (Jvm.Cond.laysStatic "java/lang/Throwable" "SUPPRESSED_SENTINEL" "Ljava/util/List;") ∈ lw_tbl := lw_at lw_m2 81 rfl
theorem q453 : (Jvm.Cond.methodLink "java/lang/Throwable" (27 : Nat) ({ cls := "java/lang/Throwable", name := "fillInStackTrace", desc := "()Ljava/lang/Throwable;" } : Jvm.MethodName)) ∈ lw_all := lw_g (lw_at lw_m2 82 rfl) rfl
theorem q454 : (Jvm.Cond.instanceMethod ({ cls := "java/lang/Throwable", name := "fillInStackTrace", desc := "()Ljava/lang/Throwable;" } : Jvm.MethodName)) ∈ lw_all := lw_g (lw_at lw_m2 83 rfl) rfl
theorem q455 : (Jvm.Cond.sameMethod "java/lang/Throwable" "java/lang/Throwable" "fillInStackTrace" "()Ljava/lang/Throwable;") ∈ lw_all := lw_g (lw_at lw_m2 84 rfl) rfl
theorem q456 : (Jvm.Cond.selects "SecretsWorth$Fault" ({ cls := "java/lang/Throwable", name := "fillInStackTrace", desc := "()Ljava/lang/Throwable;" } : Jvm.MethodName) ({ cls := "java/lang/Throwable", name := "fillInStackTrace", desc := "()Ljava/lang/Throwable;" } : Jvm.MethodName)) ∈ lw_all := lw_g (lw_at lw_m2 85 rfl) rfl
theorem q457 : (Jvm.Cond.selects "java/lang/ArithmeticException" ({ cls := "java/lang/Throwable", name := "fillInStackTrace", desc := "()Ljava/lang/Throwable;" } : Jvm.MethodName) ({ cls := "java/lang/Throwable", name := "fillInStackTrace", desc := "()Ljava/lang/Throwable;" } : Jvm.MethodName)) ∈ lw_all := lw_g (lw_at lw_m2 86 rfl) rfl
theorem q458 : (Jvm.Cond.selects "java/lang/ArrayIndexOutOfBoundsException" ({ cls := "java/lang/Throwable", name := "fillInStackTrace", desc := "()Ljava/lang/Throwable;" } : Jvm.MethodName) ({ cls := "java/lang/Throwable", name := "fillInStackTrace", desc := "()Ljava/lang/Throwable;" } : Jvm.MethodName)) ∈ lw_all := lw_g (lw_at lw_m2 87 rfl) rfl
theorem q459 : (Jvm.Cond.selects "java/lang/NullPointerException" ({ cls := "java/lang/Throwable", name := "fillInStackTrace", desc := "()Ljava/lang/Throwable;" } : Jvm.MethodName) ({ cls := "java/lang/NullPointerException", name := "fillInStackTrace", desc := "()Ljava/lang/Throwable;" } : Jvm.MethodName)) ∈ lw_all := lw_g (lw_at lw_m2 88 rfl) rfl
theorem q460 : (Jvm.Cond.instanceMethod ({ cls := "java/lang/NullPointerException", name := "fillInStackTrace", desc := "()Ljava/lang/Throwable;" } : Jvm.MethodName)) ∈ lw_all := lw_g (lw_at lw_m2 89 rfl) rfl
theorem q461 : (Jvm.Cond.codeSync ({ cls := "java/lang/NullPointerException", name := "fillInStackTrace", desc := "()Ljava/lang/Throwable;" } : Jvm.MethodName) prog_22_method_3_code (1 : Nat) (Option.some (Jvm.ClassFile.FieldType.object "java/lang/Throwable"))) ∈ lw_all := lw_g (lw_at lw_m2 90 rfl) rfl
theorem q462 : (Jvm.Cond.methodLink "java/lang/NullPointerException" (16 : Nat) ({ cls := "java/lang/NullPointerException", name := "getExtendedNPEMessage", desc := "()Ljava/lang/String;" } : Jvm.MethodName)) ∈ lw_all := lw_g (lw_at lw_m2 91 rfl) rfl
theorem q463 : (Jvm.Cond.privateMethod ({ cls := "java/lang/NullPointerException", name := "getExtendedNPEMessage", desc := "()Ljava/lang/String;" } : Jvm.MethodName)) ∈ lw_tbl := lw_at lw_m2 92 rfl
theorem q464 : (Jvm.Cond.instanceMethod ({ cls := "java/lang/NullPointerException", name := "getExtendedNPEMessage", desc := "()Ljava/lang/String;" } : Jvm.MethodName)) ∈ lw_all := lw_g (lw_at lw_m2 93 rfl) rfl
theorem q465 : (Jvm.Cond.instantiable "java/lang/NullPointerException" (8 : Nat)) ∈ lw_all := lw_g (lw_at lw_m2 94 rfl) rfl
theorem q466 : (Jvm.Cond.native ({ cls := "java/lang/NullPointerException", name := "getExtendedNPEMessage", desc := "()Ljava/lang/String;" } : Jvm.MethodName)) ∈ lw_all := lw_g (lw_at lw_m2 95 rfl) rfl
theorem q467 : (Jvm.Cond.methodLink "java/lang/NullPointerException" (24 : Nat) ({ cls := "java/lang/RuntimeException", name := "fillInStackTrace", desc := "()Ljava/lang/Throwable;" } : Jvm.MethodName)) ∈ lw_all := lw_g (lw_at lw_m2 96 rfl) rfl
theorem q468 : (Jvm.Cond.sameMethod "java/lang/RuntimeException" "java/lang/Throwable" "fillInStackTrace" "()Ljava/lang/Throwable;") ∈ lw_all := lw_g (lw_at lw_m2 97 rfl) rfl
theorem q469 : (Jvm.Cond.declares ({ cls := "java/lang/Throwable", name := "fillInStackTrace", desc := "()Ljava/lang/Throwable;" } : Jvm.MethodName)) ∈ lw_tbl := lw_at lw_m2 98 rfl
theorem q470 : (Jvm.Cond.superclass "java/lang/NullPointerException" "java/lang/RuntimeException") ∈ lw_all := lw_g (lw_at lw_m2 99 rfl) rfl
theorem q471 : (Jvm.Cond.superclass "java/lang/RuntimeException" "java/lang/Exception") ∈ lw_all := lw_g (lw_at lw_m2 100 rfl) rfl
theorem q472 : (Jvm.Cond.superclass "java/lang/Exception" "java/lang/Throwable") ∈ lw_all := lw_g (lw_at lw_m2 101 rfl) rfl
theorem q473 : (Jvm.Cond.codeSync ({ cls := "java/lang/Throwable", name := "fillInStackTrace", desc := "()Ljava/lang/Throwable;" } : Jvm.MethodName) prog_31_method_18_code (1 : Nat) (Option.some (Jvm.ClassFile.FieldType.object "java/lang/Throwable"))) ∈ lw_all := lw_g (lw_at lw_m2 102 rfl) rfl
theorem q474 : (Jvm.Cond.methodLink "java/lang/Throwable" (202 : Nat) ({ cls := "java/lang/Throwable", name := "fillInStackTrace", desc := "(I)Ljava/lang/Throwable;" } : Jvm.MethodName)) ∈ lw_all := lw_g (lw_at lw_m2 103 rfl) rfl
theorem q475 : (Jvm.Cond.privateMethod ({ cls := "java/lang/Throwable", name := "fillInStackTrace", desc := "(I)Ljava/lang/Throwable;" } : Jvm.MethodName)) ∈ lw_tbl := lw_at lw_m2 104 rfl
theorem q476 : (Jvm.Cond.instanceMethod ({ cls := "java/lang/Throwable", name := "fillInStackTrace", desc := "(I)Ljava/lang/Throwable;" } : Jvm.MethodName)) ∈ lw_all := lw_g (lw_at lw_m2 105 rfl) rfl
theorem q477 : (Jvm.Cond.instantiable "java/lang/Throwable" (6 : Nat)) ∈ lw_all := lw_g (lw_at lw_m2 106 rfl) rfl
theorem q478 : (Jvm.Cond.native ({ cls := "java/lang/Throwable", name := "fillInStackTrace", desc := "(I)Ljava/lang/Throwable;" } : Jvm.MethodName)) ∈ lw_all := lw_g (lw_at lw_m2 107 rfl) rfl
theorem q479 : (Jvm.Cond.methodLink "SecretsWorth" (3 : Nat) ({ cls := "SecretsWorth$Wrong", name := "<init>", desc := "(I)V" } : Jvm.MethodName)) ∈ lw_all := lw_g (lw_at lw_m2 108 rfl) rfl
theorem q480 : (Jvm.Cond.instanceMethod ({ cls := "SecretsWorth$Wrong", name := "<init>", desc := "(I)V" } : Jvm.MethodName)) ∈ lw_all := lw_g (lw_at lw_m2 109 rfl) rfl
theorem q481 : (Jvm.Cond.code ({ cls := "SecretsWorth$Wrong", name := "<init>", desc := "(I)V" } : Jvm.MethodName) prog_9_method_1_code (2 : Nat) (Option.none : Option Jvm.ClassFile.FieldType)) ∈ lw_all := lw_g (lw_at lw_m2 110 rfl) rfl
theorem q482 : (Jvm.Cond.methodLink "SecretsWorth$Wrong" (1 : Nat) ({ cls := "java/lang/RuntimeException", name := "<init>", desc := "(Ljava/lang/String;Ljava/lang/Throwable;ZZ)V" } : Jvm.MethodName)) ∈ lw_all := lw_g (lw_at lw_m2 111 rfl) rfl
theorem q483 : (Jvm.Cond.instanceMethod ({ cls := "java/lang/RuntimeException", name := "<init>", desc := "(Ljava/lang/String;Ljava/lang/Throwable;ZZ)V" } : Jvm.MethodName)) ∈ lw_all := lw_g (lw_at lw_m2 112 rfl) rfl
theorem q484 : (Jvm.Cond.code ({ cls := "java/lang/RuntimeException", name := "<init>", desc := "(Ljava/lang/String;Ljava/lang/Throwable;ZZ)V" } : Jvm.MethodName) prog_24_method_5_code (5 : Nat) (Option.none : Option Jvm.ClassFile.FieldType)) ∈ lw_all := lw_g (lw_at lw_m2 113 rfl) rfl
theorem q485 : (Jvm.Cond.methodLink "java/lang/RuntimeException" (16 : Nat) ({ cls := "java/lang/Exception", name := "<init>", desc := "(Ljava/lang/String;Ljava/lang/Throwable;ZZ)V" } : Jvm.MethodName)) ∈ lw_all := lw_g (lw_at lw_m2 114 rfl) rfl
theorem q486 : (Jvm.Cond.instanceMethod ({ cls := "java/lang/Exception", name := "<init>", desc := "(Ljava/lang/String;Ljava/lang/Throwable;ZZ)V" } : Jvm.MethodName)) ∈ lw_all := lw_g (lw_at lw_m2 115 rfl) rfl
theorem q487 : (Jvm.Cond.code ({ cls := "java/lang/Exception", name := "<init>", desc := "(Ljava/lang/String;Ljava/lang/Throwable;ZZ)V" } : Jvm.MethodName) prog_17_method_5_code (5 : Nat) (Option.none : Option Jvm.ClassFile.FieldType)) ∈ lw_all := lw_g (lw_at lw_m2 116 rfl) rfl
theorem q488 : (Jvm.Cond.methodLink "java/lang/Exception" (16 : Nat) ({ cls := "java/lang/Throwable", name := "<init>", desc := "(Ljava/lang/String;Ljava/lang/Throwable;ZZ)V" } : Jvm.MethodName)) ∈ lw_all := lw_g (lw_at lw_m2 117 rfl) rfl
theorem q489 : (Jvm.Cond.instanceMethod ({ cls := "java/lang/Throwable", name := "<init>", desc := "(Ljava/lang/String;Ljava/lang/Throwable;ZZ)V" } : Jvm.MethodName)) ∈ lw_all := lw_g (lw_at lw_m2 118 rfl) rfl
theorem q490 : (Jvm.Cond.code ({ cls := "java/lang/Throwable", name := "<init>", desc := "(Ljava/lang/String;Ljava/lang/Throwable;ZZ)V" } : Jvm.MethodName) prog_31_method_5_code (5 : Nat) (Option.none : Option Jvm.ClassFile.FieldType)) ∈ lw_all := lw_g (lw_at lw_m2 119 rfl) rfl
theorem q491 : (Jvm.Cond.fieldLink "SecretsWorth$Wrong" (7 : Nat) "SecretsWorth$Wrong" "kind" "I") ∈ lw_all := lw_g (lw_at lw_m2 120 rfl) rfl
theorem q492 : (Jvm.Cond.fieldLink "SecretsWorth" (17 : Nat) "SecretsWorth$Wrong" "kind" "I") ∈ lw_all := lw_g (lw_at lw_m2 121 rfl) rfl
theorem q493 : (Jvm.Cond.fieldLink "java/lang/Throwable" (198 : Nat) "java/lang/Throwable" "backtrace" "Ljava/lang/Object;") ∈ lw_all := lw_g (lw_at lw_m2 122 rfl) rfl
theorem q494 : (Jvm.Cond.fieldLink "java/lang/Throwable" (31 : Nat) "java/lang/Throwable" "detailMessage" "Ljava/lang/String;") ∈ lw_all := lw_g (lw_at lw_m2 123 rfl) rfl
theorem q495 : (Jvm.Cond.fieldLink "java/lang/Throwable" (7 : Nat) "java/lang/Throwable" "cause" "Ljava/lang/Throwable;") ∈ lw_all := lw_g (lw_at lw_m2 124 rfl) rfl
theorem q496 : (Jvm.Cond.fieldLink "java/lang/Throwable" (17 : Nat) "java/lang/Throwable" "stackTrace" "[Ljava/lang/StackTraceElement;") ∈ lw_all := lw_g (lw_at lw_m2 125 rfl) rfl
theorem q497 : (Jvm.Cond.fieldLink "java/lang/Throwable" (24 : Nat) "java/lang/Throwable" "suppressedExceptions" "Ljava/util/List;") ∈ lw_all := lw_g (lw_at lw_m2 126 rfl) rfl
theorem q498 : (Jvm.Cond.laysFinal "SecretsWorth$Wrong" "SecretsWorth$Wrong" "kind" "I") ∈ lw_all := lw_g (lw_at lw_m2 127 rfl) rfl
theorem q499 : (Jvm.Cond.soleField "SecretsWorth$Wrong" "kind") ∈ lw_all := lw_g (lw_at lw_m2 128 rfl) rfl
theorem q500 : (Jvm.Cond.soleField "java/lang/Throwable" "backtrace") ∈ lw_all := lw_g (lw_at lw_m2 129 rfl) rfl
theorem q501 : (Jvm.Cond.soleField "java/lang/Throwable" "detailMessage") ∈ lw_all := lw_g (lw_at lw_m2 130 rfl) rfl
theorem q502 : (Jvm.Cond.soleField "java/lang/Throwable" "cause") ∈ lw_all := lw_g (lw_at lw_m2 131 rfl) rfl
theorem q503 : (Jvm.Cond.soleField "java/lang/Throwable" "stackTrace") ∈ lw_all := lw_g (lw_at lw_m2 132 rfl) rfl
theorem q504 : (Jvm.Cond.lays "SecretsWorth$Wrong" "java/lang/Throwable" "depth" "I") ∈ lw_all := lw_g (lw_at lw_m2 133 rfl) rfl
theorem q505 : (Jvm.Cond.soleField "java/lang/Throwable" "depth") ∈ lw_all := lw_g (lw_at lw_m2 134 rfl) rfl
theorem q506 : (Jvm.Cond.soleField "java/lang/Throwable" "suppressedExceptions") ∈ lw_all := lw_g (lw_at lw_m2 135 rfl) rfl
theorem q507 : (Jvm.Cond.superclass "SecretsWorth$Wrong" "java/lang/RuntimeException") ∈ lw_all := lw_g (lw_at lw_m2 136 rfl) rfl
theorem q508 : (Jvm.Cond.methodLink "SecretsWorth" (155 : Nat) ({ cls := "SecretsWorth$House", name := "states", desc := "(I)V" } : Jvm.MethodName)) ∈ lw_all := lw_g (lw_at lw_m2 137 rfl) rfl
theorem q509 : (Jvm.Cond.instanceMethod ({ cls := "SecretsWorth$House", name := "states", desc := "(I)V" } : Jvm.MethodName)) ∈ lw_all := lw_g (lw_at lw_m2 138 rfl) rfl
theorem q510 : (Jvm.Cond.selects "SecretsWorth$House" ({ cls := "SecretsWorth$House", name := "states", desc := "(I)V" } : Jvm.MethodName) ({ cls := "SecretsWorth$House", name := "states", desc := "(I)V" } : Jvm.MethodName)) ∈ lw_all := lw_g (lw_at lw_m2 139 rfl) rfl
theorem q511 : (Jvm.Cond.code ({ cls := "SecretsWorth$House", name := "states", desc := "(I)V" } : Jvm.MethodName) prog_3_method_4_code (2 : Nat) (Option.none : Option Jvm.ClassFile.FieldType)) ∈ lw_all := lw_g (lw_at lw_m2 140 rfl) rfl
theorem q512 : (Jvm.Cond.methodLink "SecretsWorth" (24 : Nat) ({ cls := "SecretsWorth", name := "answers", desc := "(LSecretsWorth$Wrong;)I" } : Jvm.MethodName)) ∈ lw_all := lw_g (lw_at lw_m2 141 rfl) rfl
theorem q513 : (Jvm.Cond.privateMethod ({ cls := "SecretsWorth", name := "answers", desc := "(LSecretsWorth$Wrong;)I" } : Jvm.MethodName)) ∈ lw_tbl := lw_at lw_m2 142 rfl
theorem q514 : (Jvm.Cond.instanceMethod ({ cls := "SecretsWorth", name := "answers", desc := "(LSecretsWorth$Wrong;)I" } : Jvm.MethodName)) ∈ lw_all := lw_g (lw_at lw_m2 143 rfl) rfl
theorem q515 : (Jvm.Cond.code ({ cls := "SecretsWorth", name := "answers", desc := "(LSecretsWorth$Wrong;)I" } : Jvm.MethodName) prog_1_method_4_code (2 : Nat) (Option.some Jvm.ClassFile.FieldType.int)) ∈ lw_all := lw_g (lw_at lw_m2 144 rfl) rfl
theorem q516 : (Jvm.Cond.constant "SecretsWorth" (21 : Nat) (-1000000000 : Int32)) ∈ lw_all := lw_g (lw_at lw_m2 145 rfl) rfl
theorem q517 : (Jvm.Cond.methodLink "SecretsWorthLaw" (18 : Nat) ({ cls := "SecretsWorth", name := "parts", desc := "(I)I" } : Jvm.MethodName)) ∈ lw_all := lw_g (lw_at lw_m2 146 rfl) rfl
theorem q518 : (Jvm.Cond.instanceMethod ({ cls := "SecretsWorth", name := "parts", desc := "(I)I" } : Jvm.MethodName)) ∈ lw_all := lw_g (lw_at lw_m2 147 rfl) rfl
theorem q519 : (Jvm.Cond.selects "SecretsWorth" ({ cls := "SecretsWorth", name := "parts", desc := "(I)I" } : Jvm.MethodName) ({ cls := "SecretsWorth", name := "parts", desc := "(I)I" } : Jvm.MethodName)) ∈ lw_all := lw_g (lw_at lw_m2 148 rfl) rfl
theorem q520 : (Jvm.Cond.codeWith ({ cls := "SecretsWorth", name := "parts", desc := "(I)I" } : Jvm.MethodName) prog_1_method_12_code (3 : Nat) (Option.some Jvm.ClassFile.FieldType.int) [((0 : Nat), (34 : Nat), (35 : Nat), (1 : Nat))]) ∈ lw_all := lw_g (lw_at lw_m2 149 rfl) rfl
theorem q521 : (Jvm.Cond.constantLong "SecretsWorth" (161 : Nat) (4 : Int64)) ∈ lw_all := lw_g (lw_at lw_m2 150 rfl) rfl
theorem q522 : (Jvm.Cond.methodLink "SecretsWorth" (166 : Nat) ({ cls := "SecretsWorth$House", name := "parts", desc := "(I)V" } : Jvm.MethodName)) ∈ lw_all := lw_g (lw_at lw_m2 151 rfl) rfl
theorem q523 : (Jvm.Cond.instanceMethod ({ cls := "SecretsWorth$House", name := "parts", desc := "(I)V" } : Jvm.MethodName)) ∈ lw_all := lw_g (lw_at lw_m2 152 rfl) rfl
theorem q524 : (Jvm.Cond.selects "SecretsWorth$House" ({ cls := "SecretsWorth$House", name := "parts", desc := "(I)V" } : Jvm.MethodName) ({ cls := "SecretsWorth$House", name := "parts", desc := "(I)V" } : Jvm.MethodName)) ∈ lw_all := lw_g (lw_at lw_m2 153 rfl) rfl
theorem q525 : (Jvm.Cond.code ({ cls := "SecretsWorth$House", name := "parts", desc := "(I)V" } : Jvm.MethodName) prog_3_method_5_code (2 : Nat) (Option.none : Option Jvm.ClassFile.FieldType)) ∈ lw_all := lw_g (lw_at lw_m2 154 rfl) rfl
theorem q526 : (Jvm.Cond.methodLink "SecretsWorthLaw" (22 : Nat) ({ cls := "SecretsWorth", name := "size", desc := "(II)I" } : Jvm.MethodName)) ∈ lw_all := lw_g (lw_at lw_m2 155 rfl) rfl
theorem q527 : (Jvm.Cond.instanceMethod ({ cls := "SecretsWorth", name := "size", desc := "(II)I" } : Jvm.MethodName)) ∈ lw_all := lw_g (lw_at lw_m2 156 rfl) rfl
theorem q528 : (Jvm.Cond.selects "SecretsWorth" ({ cls := "SecretsWorth", name := "size", desc := "(II)I" } : Jvm.MethodName) ({ cls := "SecretsWorth", name := "size", desc := "(II)I" } : Jvm.MethodName)) ∈ lw_all := lw_g (lw_at lw_m2 157 rfl) rfl
theorem q529 : (Jvm.Cond.codeWith ({ cls := "SecretsWorth", name := "size", desc := "(II)I" } : Jvm.MethodName) prog_1_method_13_code (4 : Nat) (Option.some Jvm.ClassFile.FieldType.int) [((0 : Nat), (68 : Nat), (69 : Nat), (1 : Nat))]) ∈ lw_all := lw_g (lw_at lw_m2 158 rfl) rfl
theorem q530 : (Jvm.Cond.methodLink "SecretsWorthLaw" (27 : Nat) ({ cls := "SecretsWorth", name := "cell", desc := "(IIII)I" } : Jvm.MethodName)) ∈ lw_all := lw_g (lw_at lw_m2 159 rfl) rfl
theorem q531 : (Jvm.Cond.instanceMethod ({ cls := "SecretsWorth", name := "cell", desc := "(IIII)I" } : Jvm.MethodName)) ∈ lw_all := lw_g (lw_at lw_m2 160 rfl) rfl
theorem q532 : (Jvm.Cond.selects "SecretsWorth" ({ cls := "SecretsWorth", name := "cell", desc := "(IIII)I" } : Jvm.MethodName) ({ cls := "SecretsWorth", name := "cell", desc := "(IIII)I" } : Jvm.MethodName)) ∈ lw_all := lw_g (lw_at lw_m2 161 rfl) rfl
theorem q533 : (Jvm.Cond.codeWith ({ cls := "SecretsWorth", name := "cell", desc := "(IIII)I" } : Jvm.MethodName) prog_1_method_14_code (6 : Nat) (Option.some Jvm.ClassFile.FieldType.int) [((0 : Nat), (76 : Nat), (77 : Nat), (1 : Nat))]) ∈ lw_all := lw_g (lw_at lw_m2 162 rfl) rfl
theorem q534 : (Jvm.Cond.methodLink "SecretsWorth" (172 : Nat) ({ cls := "SecretsWorth", name := "isPlace", desc := "(I)Z" } : Jvm.MethodName)) ∈ lw_all := lw_g (lw_at lw_m2 163 rfl) rfl
theorem q535 : (Jvm.Cond.static ({ cls := "SecretsWorth", name := "isPlace", desc := "(I)Z" } : Jvm.MethodName)) ∈ lw_all := lw_g (lw_at lw_m2 164 rfl) rfl
theorem q536 : (Jvm.Cond.code ({ cls := "SecretsWorth", name := "isPlace", desc := "(I)Z" } : Jvm.MethodName) prog_1_method_10_code (1 : Nat) (Option.some Jvm.ClassFile.FieldType.boolean)) ∈ lw_all := lw_g (lw_at lw_m2 165 rfl) rfl
theorem q537 : (Jvm.Cond.constantLong "SecretsWorth" (176 : Nat) (-20 : Int64)) ∈ lw_all := lw_g (lw_at lw_m2 166 rfl) rfl
theorem q538 : (Jvm.Cond.constantLong "SecretsWorth" (178 : Nat) (20 : Int64)) ∈ lw_all := lw_g (lw_at lw_m2 167 rfl) rfl
theorem q539 : (Jvm.Cond.methodLink "SecretsWorthLaw" (32 : Nat) ({ cls := "SecretsWorth", name := "lays", desc := "(II)I" } : Jvm.MethodName)) ∈ lw_all := lw_g (lw_at lw_m2 168 rfl) rfl
theorem q540 : (Jvm.Cond.instanceMethod ({ cls := "SecretsWorth", name := "lays", desc := "(II)I" } : Jvm.MethodName)) ∈ lw_all := lw_g (lw_at lw_m2 169 rfl) rfl
theorem q541 : (Jvm.Cond.selects "SecretsWorth" ({ cls := "SecretsWorth", name := "lays", desc := "(II)I" } : Jvm.MethodName) ({ cls := "SecretsWorth", name := "lays", desc := "(II)I" } : Jvm.MethodName)) ∈ lw_all := lw_g (lw_at lw_m2 170 rfl) rfl
theorem q542 : (Jvm.Cond.codeWith ({ cls := "SecretsWorth", name := "lays", desc := "(II)I" } : Jvm.MethodName) prog_1_method_15_code (10 : Nat) (Option.some Jvm.ClassFile.FieldType.int) [((0 : Nat), (190 : Nat), (191 : Nat), (1 : Nat))]) ∈ lw_all := lw_g (lw_at lw_m2 171 rfl) rfl
theorem q543 : (Jvm.Cond.methodLink "SecretsWorth" (184 : Nat) ({ cls := "SecretsWorth", name := "isSheet", desc := "(I)Z" } : Jvm.MethodName)) ∈ lw_all := lw_g (lw_at lw_m2 172 rfl) rfl
theorem q544 : (Jvm.Cond.static ({ cls := "SecretsWorth", name := "isSheet", desc := "(I)Z" } : Jvm.MethodName)) ∈ lw_all := lw_g (lw_at lw_m2 173 rfl) rfl
theorem q545 : (Jvm.Cond.code ({ cls := "SecretsWorth", name := "isSheet", desc := "(I)Z" } : Jvm.MethodName) prog_1_method_103_code (1 : Nat) (Option.some Jvm.ClassFile.FieldType.boolean)) ∈ lw_all := lw_g (lw_at lw_m2 174 rfl) rfl
theorem q546 : (Jvm.Cond.methodLink "SecretsWorth" (187 : Nat) ({ cls := "SecretsWorth$Sheet", name := "get", desc := "(I)J" } : Jvm.MethodName)) ∈ lw_all := lw_g (lw_at lw_m2 175 rfl) rfl
theorem q547 : (Jvm.Cond.instanceMethod ({ cls := "SecretsWorth$Sheet", name := "get", desc := "(I)J" } : Jvm.MethodName)) ∈ lw_all := lw_g (lw_at lw_m2 176 rfl) rfl
theorem q548 : (Jvm.Cond.selects "SecretsWorth$Sheet" ({ cls := "SecretsWorth$Sheet", name := "get", desc := "(I)J" } : Jvm.MethodName) ({ cls := "SecretsWorth$Sheet", name := "get", desc := "(I)J" } : Jvm.MethodName)) ∈ lw_all := lw_g (lw_at lw_m2 177 rfl) rfl
theorem q549 : (Jvm.Cond.codeWith ({ cls := "SecretsWorth$Sheet", name := "get", desc := "(I)J" } : Jvm.MethodName) prog_7_method_4_code (3 : Nat) (Option.some Jvm.ClassFile.FieldType.long) [((0 : Nat), (32 : Nat), (33 : Nat), (19 : Nat)), ((0 : Nat), (32 : Nat), (44 : Nat), (26 : Nat))]) ∈ lw_all := lw_g (lw_at lw_m2 178 rfl) rfl
theorem q550 : (Jvm.Cond.classLink "SecretsWorth$Sheet" (19 : Nat) "java/lang/NullPointerException") ∈ lw_all := lw_g (lw_at lw_m2 179 rfl) rfl
theorem q551 : (Jvm.Cond.instanceMethod ({ cls := "java/lang/NullPointerException", name := "<init>", desc := "()V" } : Jvm.MethodName)) ∈ lw_all := lw_g (lw_at lw_m2 180 rfl) rfl
theorem q552 : (Jvm.Cond.code ({ cls := "java/lang/NullPointerException", name := "<init>", desc := "()V" } : Jvm.MethodName) prog_22_method_1_code (1 : Nat) (Option.none : Option Jvm.ClassFile.FieldType)) ∈ lw_all := lw_g (lw_at lw_m2 181 rfl) rfl
theorem q553 : (Jvm.Cond.methodLink "java/lang/NullPointerException" (1 : Nat) ({ cls := "java/lang/RuntimeException", name := "<init>", desc := "()V" } : Jvm.MethodName)) ∈ lw_all := lw_g (lw_at lw_m2 182 rfl) rfl
theorem q554 : (Jvm.Cond.instanceMethod ({ cls := "java/lang/RuntimeException", name := "<init>", desc := "()V" } : Jvm.MethodName)) ∈ lw_all := lw_g (lw_at lw_m2 183 rfl) rfl
theorem q555 : (Jvm.Cond.code ({ cls := "java/lang/RuntimeException", name := "<init>", desc := "()V" } : Jvm.MethodName) prog_24_method_1_code (1 : Nat) (Option.none : Option Jvm.ClassFile.FieldType)) ∈ lw_all := lw_g (lw_at lw_m2 184 rfl) rfl
theorem q556 : (Jvm.Cond.methodLink "java/lang/RuntimeException" (1 : Nat) ({ cls := "java/lang/Exception", name := "<init>", desc := "()V" } : Jvm.MethodName)) ∈ lw_all := lw_g (lw_at lw_m2 185 rfl) rfl
theorem q557 : (Jvm.Cond.instanceMethod ({ cls := "java/lang/Exception", name := "<init>", desc := "()V" } : Jvm.MethodName)) ∈ lw_all := lw_g (lw_at lw_m2 186 rfl) rfl
theorem q558 : (Jvm.Cond.code ({ cls := "java/lang/Exception", name := "<init>", desc := "()V" } : Jvm.MethodName) prog_17_method_1_code (1 : Nat) (Option.none : Option Jvm.ClassFile.FieldType)) ∈ lw_all := lw_g (lw_at lw_m2 187 rfl) rfl
theorem q559 : (Jvm.Cond.methodLink "java/lang/Exception" (1 : Nat) ({ cls := "java/lang/Throwable", name := "<init>", desc := "()V" } : Jvm.MethodName)) ∈ lw_all := lw_g (lw_at lw_m2 188 rfl) rfl
theorem q560 : (Jvm.Cond.fieldLink "java/lang/NullPointerException" (10 : Nat) "java/lang/NullPointerException" "extendedMessageState" "I") ∈ lw_all := lw_g (lw_at lw_m2 189 rfl) rfl
theorem q561 : (Jvm.Cond.fieldLink "java/lang/NullPointerException" (20 : Nat) "java/lang/NullPointerException" "extendedMessage" "Ljava/lang/String;") ∈ lw_all := lw_g (lw_at lw_m2 190 rfl) rfl
theorem q562 : (Jvm.Cond.lays "java/lang/NullPointerException" "java/lang/NullPointerException" "extendedMessageState" "I") ∈ lw_all := lw_g (lw_at lw_m2 191 rfl) rfl
theorem q563 : (Jvm.Cond.soleField "java/lang/NullPointerException" "extendedMessageState") ∈ lw_all := lw_g (lw_at lw_m2 192 rfl) rfl
theorem q564 : (Jvm.Cond.lays "java/lang/NullPointerException" "java/lang/NullPointerException" "extendedMessage" "Ljava/lang/String;") ∈ lw_all := lw_g (lw_at lw_m2 193 rfl) rfl
theorem q565 : (Jvm.Cond.soleField "java/lang/NullPointerException" "extendedMessage") ∈ lw_all := lw_g (lw_at lw_m2 194 rfl) rfl
theorem q566 : (Jvm.Cond.lays "java/lang/NullPointerException" "java/lang/Throwable" "backtrace" "Ljava/lang/Object;") ∈ lw_all := lw_g (lw_at lw_m2 195 rfl) rfl
theorem q567 : (Jvm.Cond.lays "java/lang/NullPointerException" "java/lang/Throwable" "detailMessage" "Ljava/lang/String;") ∈ lw_all := lw_g (lw_at lw_m2 196 rfl) rfl
theorem q568 : (Jvm.Cond.lays "java/lang/NullPointerException" "java/lang/Throwable" "cause" "Ljava/lang/Throwable;") ∈ lw_all := lw_g (lw_at lw_m2 197 rfl) rfl
theorem q569 : (Jvm.Cond.lays "java/lang/NullPointerException" "java/lang/Throwable" "stackTrace" "[Ljava/lang/StackTraceElement;") ∈ lw_all := lw_g (lw_at lw_m2 198 rfl) rfl
theorem q570 : (Jvm.Cond.lays "java/lang/NullPointerException" "java/lang/Throwable" "depth" "I") ∈ lw_all := lw_g (lw_at lw_m2 199 rfl) rfl
theorem q571 : (Jvm.Cond.lays "java/lang/NullPointerException" "java/lang/Throwable" "suppressedExceptions" "Ljava/util/List;") ∈ lw_all := lw_g (lw_at lw_m2 200 rfl) rfl
theorem q572 : (Jvm.Cond.castable "java/lang/NullPointerException" "java/lang/NullPointerException") ∈ lw_tbl := lw_at lw_m2 201 rfl
theorem q573 : (Jvm.Cond.selects "java/lang/NullPointerException" ({ cls := "java/lang/Throwable", name := "fillInStackTrace", desc := "(I)Ljava/lang/Throwable;" } : Jvm.MethodName) ({ cls := "java/lang/Throwable", name := "fillInStackTrace", desc := "(I)Ljava/lang/Throwable;" } : Jvm.MethodName)) ∈ lw_all := lw_g (lw_at lw_m2 202 rfl) rfl
theorem q574 : (Jvm.Cond.castable "java/lang/RuntimeException" "java/lang/Throwable") ∈ lw_tbl := lw_at lw_m2 203 rfl
theorem q575 : (Jvm.Cond.classLink "SecretsWorth$Sheet" (26 : Nat) "java/lang/ArrayIndexOutOfBoundsException") ∈ lw_all := lw_g (lw_at lw_m2 204 rfl) rfl
theorem q576 : (Jvm.Cond.instantiable "java/lang/ArrayIndexOutOfBoundsException" (6 : Nat)) ∈ lw_all := lw_g (lw_at lw_m2 205 rfl) rfl
theorem q577 : (Jvm.Cond.instanceMethod ({ cls := "java/lang/ArrayIndexOutOfBoundsException", name := "<init>", desc := "(Ljava/lang/String;)V" } : Jvm.MethodName)) ∈ lw_all := lw_g (lw_at lw_m2 206 rfl) rfl
theorem q578 : (Jvm.Cond.code ({ cls := "java/lang/ArrayIndexOutOfBoundsException", name := "<init>", desc := "(Ljava/lang/String;)V" } : Jvm.MethodName) prog_14_method_2_code (2 : Nat) (Option.none : Option Jvm.ClassFile.FieldType)) ∈ lw_all := lw_g (lw_at lw_m2 207 rfl) rfl
theorem q579 : (Jvm.Cond.methodLink "java/lang/ArrayIndexOutOfBoundsException" (7 : Nat) ({ cls := "java/lang/IndexOutOfBoundsException", name := "<init>", desc := "(Ljava/lang/String;)V" } : Jvm.MethodName)) ∈ lw_all := lw_g (lw_at lw_m2 208 rfl) rfl
theorem q580 : (Jvm.Cond.instanceMethod ({ cls := "java/lang/IndexOutOfBoundsException", name := "<init>", desc := "(Ljava/lang/String;)V" } : Jvm.MethodName)) ∈ lw_all := lw_g (lw_at lw_m2 209 rfl) rfl
theorem q581 : (Jvm.Cond.code ({ cls := "java/lang/IndexOutOfBoundsException", name := "<init>", desc := "(Ljava/lang/String;)V" } : Jvm.MethodName) prog_18_method_2_code (2 : Nat) (Option.none : Option Jvm.ClassFile.FieldType)) ∈ lw_all := lw_g (lw_at lw_m2 210 rfl) rfl
theorem q582 : (Jvm.Cond.methodLink "java/lang/IndexOutOfBoundsException" (7 : Nat) ({ cls := "java/lang/RuntimeException", name := "<init>", desc := "(Ljava/lang/String;)V" } : Jvm.MethodName)) ∈ lw_all := lw_g (lw_at lw_m2 211 rfl) rfl
theorem q583 : (Jvm.Cond.instanceMethod ({ cls := "java/lang/RuntimeException", name := "<init>", desc := "(Ljava/lang/String;)V" } : Jvm.MethodName)) ∈ lw_all := lw_g (lw_at lw_m2 212 rfl) rfl
theorem q584 : (Jvm.Cond.code ({ cls := "java/lang/RuntimeException", name := "<init>", desc := "(Ljava/lang/String;)V" } : Jvm.MethodName) prog_24_method_2_code (2 : Nat) (Option.none : Option Jvm.ClassFile.FieldType)) ∈ lw_all := lw_g (lw_at lw_m2 213 rfl) rfl
theorem q585 : (Jvm.Cond.methodLink "java/lang/RuntimeException" (7 : Nat) ({ cls := "java/lang/Exception", name := "<init>", desc := "(Ljava/lang/String;)V" } : Jvm.MethodName)) ∈ lw_all := lw_g (lw_at lw_m2 214 rfl) rfl
theorem q586 : (Jvm.Cond.instanceMethod ({ cls := "java/lang/Exception", name := "<init>", desc := "(Ljava/lang/String;)V" } : Jvm.MethodName)) ∈ lw_all := lw_g (lw_at lw_m2 215 rfl) rfl
theorem q587 : (Jvm.Cond.code ({ cls := "java/lang/Exception", name := "<init>", desc := "(Ljava/lang/String;)V" } : Jvm.MethodName) prog_17_method_2_code (2 : Nat) (Option.none : Option Jvm.ClassFile.FieldType)) ∈ lw_all := lw_g (lw_at lw_m2 216 rfl) rfl
theorem q588 : (Jvm.Cond.methodLink "java/lang/Exception" (7 : Nat) ({ cls := "java/lang/Throwable", name := "<init>", desc := "(Ljava/lang/String;)V" } : Jvm.MethodName)) ∈ lw_all := lw_g (lw_at lw_m2 217 rfl) rfl
theorem q589 : (Jvm.Cond.instanceMethod ({ cls := "java/lang/Throwable", name := "<init>", desc := "(Ljava/lang/String;)V" } : Jvm.MethodName)) ∈ lw_all := lw_g (lw_at lw_m2 218 rfl) rfl
theorem q590 : (Jvm.Cond.code ({ cls := "java/lang/Throwable", name := "<init>", desc := "(Ljava/lang/String;)V" } : Jvm.MethodName) prog_31_method_2_code (2 : Nat) (Option.none : Option Jvm.ClassFile.FieldType)) ∈ lw_all := lw_g (lw_at lw_m2 219 rfl) rfl
theorem q591 : (Jvm.Cond.lays "java/lang/ArrayIndexOutOfBoundsException" "java/lang/Throwable" "backtrace" "Ljava/lang/Object;") ∈ lw_all := lw_g (lw_at lw_m2 220 rfl) rfl
theorem q592 : (Jvm.Cond.lays "java/lang/ArrayIndexOutOfBoundsException" "java/lang/Throwable" "detailMessage" "Ljava/lang/String;") ∈ lw_all := lw_g (lw_at lw_m2 221 rfl) rfl
theorem q593 : (Jvm.Cond.lays "java/lang/ArrayIndexOutOfBoundsException" "java/lang/Throwable" "cause" "Ljava/lang/Throwable;") ∈ lw_all := lw_g (lw_at lw_m2 222 rfl) rfl
theorem q594 : (Jvm.Cond.lays "java/lang/ArrayIndexOutOfBoundsException" "java/lang/Throwable" "stackTrace" "[Ljava/lang/StackTraceElement;") ∈ lw_all := lw_g (lw_at lw_m2 223 rfl) rfl
theorem q595 : (Jvm.Cond.lays "java/lang/ArrayIndexOutOfBoundsException" "java/lang/Throwable" "depth" "I") ∈ lw_all := lw_g (lw_at lw_m2 224 rfl) rfl
theorem q596 : (Jvm.Cond.lays "java/lang/ArrayIndexOutOfBoundsException" "java/lang/Throwable" "suppressedExceptions" "Ljava/util/List;") ∈ lw_all := lw_g (lw_at lw_m2 225 rfl) rfl
theorem q597 : (Jvm.Cond.superclass "java/lang/ArrayIndexOutOfBoundsException" "java/lang/IndexOutOfBoundsException") ∈ lw_all := lw_g (lw_at lw_m2 226 rfl) rfl
theorem q598 : (Jvm.Cond.castable "java/lang/ArrayIndexOutOfBoundsException" "java/lang/ArrayIndexOutOfBoundsException") ∈ lw_tbl := lw_at lw_m2 227 rfl
theorem q599 : (Jvm.Cond.declares ({ cls := "java/lang/IndexOutOfBoundsException", name := "<init>", desc := "()V" } : Jvm.MethodName)) ∈ lw_tbl := lw_at lw_m2 228 rfl
theorem q600 : (Jvm.Cond.declares ({ cls := "java/lang/IndexOutOfBoundsException", name := "<init>", desc := "(Ljava/lang/String;)V" } : Jvm.MethodName)) ∈ lw_tbl := lw_at lw_m2 229 rfl
theorem q601 : (Jvm.Cond.selects "java/lang/ArrayIndexOutOfBoundsException" ({ cls := "java/lang/Throwable", name := "fillInStackTrace", desc := "(I)Ljava/lang/Throwable;" } : Jvm.MethodName) ({ cls := "java/lang/Throwable", name := "fillInStackTrace", desc := "(I)Ljava/lang/Throwable;" } : Jvm.MethodName)) ∈ lw_all := lw_g (lw_at lw_m2 230 rfl) rfl
theorem q602 : (Jvm.Cond.instantiable "java/lang/String" (4 : Nat)) ∈ lw_all := lw_g (lw_at lw_m2 231 rfl) rfl
theorem q603 : (Jvm.Cond.laysFinal "java/lang/String" "java/lang/String" "value" "[B") ∈ lw_all := lw_g (lw_at lw_m2 232 rfl) rfl
theorem q604 : (Jvm.Cond.soleField "java/lang/String" "value") ∈ lw_all := lw_g (lw_at lw_m2 233 rfl) rfl
theorem q605 : (Jvm.Cond.laysFinal "java/lang/String" "java/lang/String" "coder" "B") ∈ lw_all := lw_g (lw_at lw_m2 234 rfl) rfl
theorem q606 : (Jvm.Cond.soleField "java/lang/String" "coder") ∈ lw_all := lw_g (lw_at lw_m2 235 rfl) rfl
theorem q607 : (Jvm.Cond.classLink "SecretsWorth$Sheet" (15 : Nat) "[S") ∈ lw_all := lw_g (lw_at lw_m2 236 rfl) rfl
theorem q608 : (Jvm.Cond.classLink "SecretsWorth$Sheet" (17 : Nat) "[J") ∈ lw_all := lw_g (lw_at lw_m2 237 rfl) rfl
theorem q609 : (Jvm.Cond.classLink "SecretsWorth$Sheet" (21 : Nat) "SecretsWorth$Wrong") ∈ lw_all := lw_g (lw_at lw_m2 238 rfl) rfl
theorem q610 : (Jvm.Cond.methodLink "SecretsWorth$Sheet" (23 : Nat) ({ cls := "SecretsWorth$Wrong", name := "<init>", desc := "(I)V" } : Jvm.MethodName)) ∈ lw_all := lw_g (lw_at lw_m2 239 rfl) rfl
theorem q611 : (Jvm.Cond.methodLink "SecretsWorthLaw" (36 : Nat) ({ cls := "SecretsWorth", name := "look", desc := "(III)I" } : Jvm.MethodName)) ∈ lw_all := lw_g (lw_at lw_m3 0 rfl) rfl
theorem q612 : (Jvm.Cond.instanceMethod ({ cls := "SecretsWorth", name := "look", desc := "(III)I" } : Jvm.MethodName)) ∈ lw_all := lw_g (lw_at lw_m3 1 rfl) rfl
theorem q613 : (Jvm.Cond.selects "SecretsWorth" ({ cls := "SecretsWorth", name := "look", desc := "(III)I" } : Jvm.MethodName) ({ cls := "SecretsWorth", name := "look", desc := "(III)I" } : Jvm.MethodName)) ∈ lw_all := lw_g (lw_at lw_m3 2 rfl) rfl
theorem q614 : (Jvm.Cond.codeWith ({ cls := "SecretsWorth", name := "look", desc := "(III)I" } : Jvm.MethodName) prog_1_method_16_code (5 : Nat) (Option.some Jvm.ClassFile.FieldType.int) [((0 : Nat), (42 : Nat), (43 : Nat), (1 : Nat))]) ∈ lw_all := lw_g (lw_at lw_m3 3 rfl) rfl
theorem q615 : (Jvm.Cond.methodLink "SecretsWorthLaw" (41 : Nat) ({ cls := "SecretsWorth", name := "prior", desc := "(I)I" } : Jvm.MethodName)) ∈ lw_all := lw_g (lw_at lw_m3 4 rfl) rfl
theorem q616 : (Jvm.Cond.instanceMethod ({ cls := "SecretsWorth", name := "prior", desc := "(I)I" } : Jvm.MethodName)) ∈ lw_all := lw_g (lw_at lw_m3 5 rfl) rfl
theorem q617 : (Jvm.Cond.selects "SecretsWorth" ({ cls := "SecretsWorth", name := "prior", desc := "(I)I" } : Jvm.MethodName) ({ cls := "SecretsWorth", name := "prior", desc := "(I)I" } : Jvm.MethodName)) ∈ lw_all := lw_g (lw_at lw_m3 6 rfl) rfl
theorem q618 : (Jvm.Cond.codeWith ({ cls := "SecretsWorth", name := "prior", desc := "(I)I" } : Jvm.MethodName) prog_1_method_17_code (3 : Nat) (Option.some Jvm.ClassFile.FieldType.int) [((0 : Nat), (28 : Nat), (29 : Nat), (1 : Nat))]) ∈ lw_all := lw_g (lw_at lw_m3 7 rfl) rfl
theorem q619 : (Jvm.Cond.methodLink "SecretsWorth" (191 : Nat) ({ cls := "SecretsWorth$House", name := "isPoint", desc := "(I)Z" } : Jvm.MethodName)) ∈ lw_all := lw_g (lw_at lw_m3 8 rfl) rfl
theorem q620 : (Jvm.Cond.instanceMethod ({ cls := "SecretsWorth$House", name := "isPoint", desc := "(I)Z" } : Jvm.MethodName)) ∈ lw_all := lw_g (lw_at lw_m3 9 rfl) rfl
theorem q621 : (Jvm.Cond.selects "SecretsWorth$House" ({ cls := "SecretsWorth$House", name := "isPoint", desc := "(I)Z" } : Jvm.MethodName) ({ cls := "SecretsWorth$House", name := "isPoint", desc := "(I)Z" } : Jvm.MethodName)) ∈ lw_all := lw_g (lw_at lw_m3 10 rfl) rfl
theorem q622 : (Jvm.Cond.code ({ cls := "SecretsWorth$House", name := "isPoint", desc := "(I)Z" } : Jvm.MethodName) prog_3_method_6_code (2 : Nat) (Option.some Jvm.ClassFile.FieldType.boolean)) ∈ lw_all := lw_g (lw_at lw_m3 11 rfl) rfl
theorem q623 : (Jvm.Cond.methodLinkNest "SecretsWorth$House" (55 : Nat) ({ cls := "SecretsWorth", name := "in", desc := "(JJJ)Z" } : Jvm.MethodName) "SecretsWorth") ∈ lw_tbl := lw_at lw_m3 12 rfl
theorem q624 : (Jvm.Cond.methodLink "SecretsWorthLaw" (45 : Nat) ({ cls := "SecretsWorth", name := "target", desc := "(II)I" } : Jvm.MethodName)) ∈ lw_all := lw_g (lw_at lw_m3 13 rfl) rfl
theorem q625 : (Jvm.Cond.instanceMethod ({ cls := "SecretsWorth", name := "target", desc := "(II)I" } : Jvm.MethodName)) ∈ lw_all := lw_g (lw_at lw_m3 14 rfl) rfl
theorem q626 : (Jvm.Cond.selects "SecretsWorth" ({ cls := "SecretsWorth", name := "target", desc := "(II)I" } : Jvm.MethodName) ({ cls := "SecretsWorth", name := "target", desc := "(II)I" } : Jvm.MethodName)) ∈ lw_all := lw_g (lw_at lw_m3 15 rfl) rfl
theorem q627 : (Jvm.Cond.codeWith ({ cls := "SecretsWorth", name := "target", desc := "(II)I" } : Jvm.MethodName) prog_1_method_18_code (4 : Nat) (Option.some Jvm.ClassFile.FieldType.int) [((0 : Nat), (54 : Nat), (55 : Nat), (1 : Nat))]) ∈ lw_all := lw_g (lw_at lw_m3 16 rfl) rfl
theorem q628 : (Jvm.Cond.methodLink "SecretsWorth" (197 : Nat) ({ cls := "SecretsWorth$House", name := "isState", desc := "(I)Z" } : Jvm.MethodName)) ∈ lw_all := lw_g (lw_at lw_m3 17 rfl) rfl
theorem q629 : (Jvm.Cond.instanceMethod ({ cls := "SecretsWorth$House", name := "isState", desc := "(I)Z" } : Jvm.MethodName)) ∈ lw_all := lw_g (lw_at lw_m3 18 rfl) rfl
theorem q630 : (Jvm.Cond.selects "SecretsWorth$House" ({ cls := "SecretsWorth$House", name := "isState", desc := "(I)Z" } : Jvm.MethodName) ({ cls := "SecretsWorth$House", name := "isState", desc := "(I)Z" } : Jvm.MethodName)) ∈ lw_all := lw_g (lw_at lw_m3 19 rfl) rfl
theorem q631 : (Jvm.Cond.code ({ cls := "SecretsWorth$House", name := "isState", desc := "(I)Z" } : Jvm.MethodName) prog_3_method_7_code (2 : Nat) (Option.some Jvm.ClassFile.FieldType.boolean)) ∈ lw_all := lw_g (lw_at lw_m3 20 rfl) rfl
theorem q632 : (Jvm.Cond.constantLong "SecretsWorth" (200 : Nat) (-99 : Int64)) ∈ lw_all := lw_g (lw_at lw_m3 21 rfl) rfl
theorem q633 : (Jvm.Cond.constantLong "SecretsWorth" (202 : Nat) (99 : Int64)) ∈ lw_all := lw_g (lw_at lw_m3 22 rfl) rfl
theorem q634 : (Jvm.Cond.methodLink "SecretsWorthLaw" (49 : Nat) ({ cls := "SecretsWorth", name := "give", desc := "(II)I" } : Jvm.MethodName)) ∈ lw_all := lw_g (lw_at lw_m3 23 rfl) rfl
theorem q635 : (Jvm.Cond.instanceMethod ({ cls := "SecretsWorth", name := "give", desc := "(II)I" } : Jvm.MethodName)) ∈ lw_all := lw_g (lw_at lw_m3 24 rfl) rfl
theorem q636 : (Jvm.Cond.selects "SecretsWorth" ({ cls := "SecretsWorth", name := "give", desc := "(II)I" } : Jvm.MethodName) ({ cls := "SecretsWorth", name := "give", desc := "(II)I" } : Jvm.MethodName)) ∈ lw_all := lw_g (lw_at lw_m3 25 rfl) rfl
theorem q637 : (Jvm.Cond.codeWith ({ cls := "SecretsWorth", name := "give", desc := "(II)I" } : Jvm.MethodName) prog_1_method_19_code (4 : Nat) (Option.some Jvm.ClassFile.FieldType.int) [((0 : Nat), (41 : Nat), (42 : Nat), (1 : Nat))]) ∈ lw_all := lw_g (lw_at lw_m3 26 rfl) rfl
theorem q638 : (Jvm.Cond.methodLink "SecretsWorthLaw" (53 : Nat) ({ cls := "SecretsWorth", name := "average", desc := "(III)I" } : Jvm.MethodName)) ∈ lw_all := lw_g (lw_at lw_m3 27 rfl) rfl
theorem q639 : (Jvm.Cond.instanceMethod ({ cls := "SecretsWorth", name := "average", desc := "(III)I" } : Jvm.MethodName)) ∈ lw_all := lw_g (lw_at lw_m3 28 rfl) rfl
theorem q640 : (Jvm.Cond.selects "SecretsWorth" ({ cls := "SecretsWorth", name := "average", desc := "(III)I" } : Jvm.MethodName) ({ cls := "SecretsWorth", name := "average", desc := "(III)I" } : Jvm.MethodName)) ∈ lw_all := lw_g (lw_at lw_m3 29 rfl) rfl
theorem q641 : (Jvm.Cond.codeWith ({ cls := "SecretsWorth", name := "average", desc := "(III)I" } : Jvm.MethodName) prog_1_method_48_code (5 : Nat) (Option.some Jvm.ClassFile.FieldType.int) [((0 : Nat), (51 : Nat), (52 : Nat), (1 : Nat))]) ∈ lw_all := lw_g (lw_at lw_m3 30 rfl) rfl
theorem q642 : (Jvm.Cond.methodLink "SecretsWorth" (358 : Nat) ({ cls := "SecretsWorth$House", name := "isRow", desc := "(I)Z" } : Jvm.MethodName)) ∈ lw_all := lw_g (lw_at lw_m3 31 rfl) rfl
theorem q643 : (Jvm.Cond.instanceMethod ({ cls := "SecretsWorth$House", name := "isRow", desc := "(I)Z" } : Jvm.MethodName)) ∈ lw_all := lw_g (lw_at lw_m3 32 rfl) rfl
theorem q644 : (Jvm.Cond.selects "SecretsWorth$House" ({ cls := "SecretsWorth$House", name := "isRow", desc := "(I)Z" } : Jvm.MethodName) ({ cls := "SecretsWorth$House", name := "isRow", desc := "(I)Z" } : Jvm.MethodName)) ∈ lw_all := lw_g (lw_at lw_m3 33 rfl) rfl
theorem q645 : (Jvm.Cond.code ({ cls := "SecretsWorth$House", name := "isRow", desc := "(I)Z" } : Jvm.MethodName) prog_3_method_8_code (2 : Nat) (Option.some Jvm.ClassFile.FieldType.boolean)) ∈ lw_all := lw_g (lw_at lw_m3 34 rfl) rfl
theorem q646 : (Jvm.Cond.methodLink "SecretsWorth" (361 : Nat) ({ cls := "SecretsWorth$House", name := "isColumn", desc := "(I)Z" } : Jvm.MethodName)) ∈ lw_all := lw_g (lw_at lw_m3 35 rfl) rfl
theorem q647 : (Jvm.Cond.instanceMethod ({ cls := "SecretsWorth$House", name := "isColumn", desc := "(I)Z" } : Jvm.MethodName)) ∈ lw_all := lw_g (lw_at lw_m3 36 rfl) rfl
theorem q648 : (Jvm.Cond.selects "SecretsWorth$House" ({ cls := "SecretsWorth$House", name := "isColumn", desc := "(I)Z" } : Jvm.MethodName) ({ cls := "SecretsWorth$House", name := "isColumn", desc := "(I)Z" } : Jvm.MethodName)) ∈ lw_all := lw_g (lw_at lw_m3 37 rfl) rfl
theorem q649 : (Jvm.Cond.code ({ cls := "SecretsWorth$House", name := "isColumn", desc := "(I)Z" } : Jvm.MethodName) prog_3_method_9_code (2 : Nat) (Option.some Jvm.ClassFile.FieldType.boolean)) ∈ lw_all := lw_g (lw_at lw_m3 38 rfl) rfl
theorem q650 : (Jvm.Cond.methodLink "SecretsWorth" (262 : Nat) ({ cls := "SecretsWorth$House", name := "average", desc := "(III)I" } : Jvm.MethodName)) ∈ lw_all := lw_g (lw_at lw_m3 39 rfl) rfl
theorem q651 : (Jvm.Cond.instanceMethod ({ cls := "SecretsWorth$House", name := "average", desc := "(III)I" } : Jvm.MethodName)) ∈ lw_all := lw_g (lw_at lw_m3 40 rfl) rfl
theorem q652 : (Jvm.Cond.selects "SecretsWorth$House" ({ cls := "SecretsWorth$House", name := "average", desc := "(III)I" } : Jvm.MethodName) ({ cls := "SecretsWorth$House", name := "average", desc := "(III)I" } : Jvm.MethodName)) ∈ lw_all := lw_g (lw_at lw_m3 41 rfl) rfl
theorem q653 : (Jvm.Cond.code ({ cls := "SecretsWorth$House", name := "average", desc := "(III)I" } : Jvm.MethodName) prog_3_method_11_code (6 : Nat) (Option.some Jvm.ClassFile.FieldType.int)) ∈ lw_all := lw_g (lw_at lw_m3 42 rfl) rfl
theorem q654 : (Jvm.Cond.methodLink "SecretsWorthLaw" (57 : Nat) ({ cls := "SecretsWorth", name := "value", desc := "(II)J" } : Jvm.MethodName)) ∈ lw_all := lw_g (lw_at lw_m3 43 rfl) rfl
theorem q655 : (Jvm.Cond.instanceMethod ({ cls := "SecretsWorth", name := "value", desc := "(II)J" } : Jvm.MethodName)) ∈ lw_all := lw_g (lw_at lw_m3 44 rfl) rfl
theorem q656 : (Jvm.Cond.selects "SecretsWorth" ({ cls := "SecretsWorth", name := "value", desc := "(II)J" } : Jvm.MethodName) ({ cls := "SecretsWorth", name := "value", desc := "(II)J" } : Jvm.MethodName)) ∈ lw_all := lw_g (lw_at lw_m3 45 rfl) rfl
theorem q657 : (Jvm.Cond.codeWith ({ cls := "SecretsWorth", name := "value", desc := "(II)J" } : Jvm.MethodName) prog_1_method_49_code (4 : Nat) (Option.some Jvm.ClassFile.FieldType.long) [((0 : Nat), (35 : Nat), (36 : Nat), (1 : Nat))]) ∈ lw_all := lw_g (lw_at lw_m3 46 rfl) rfl
theorem q658 : (Jvm.Cond.methodLink "SecretsWorth" (364 : Nat) ({ cls := "SecretsWorth", name := "isPart", desc := "(I)Z" } : Jvm.MethodName)) ∈ lw_all := lw_g (lw_at lw_m3 47 rfl) rfl
theorem q659 : (Jvm.Cond.static ({ cls := "SecretsWorth", name := "isPart", desc := "(I)Z" } : Jvm.MethodName)) ∈ lw_all := lw_g (lw_at lw_m3 48 rfl) rfl
theorem q660 : (Jvm.Cond.code ({ cls := "SecretsWorth", name := "isPart", desc := "(I)Z" } : Jvm.MethodName) prog_1_method_9_code (1 : Nat) (Option.some Jvm.ClassFile.FieldType.boolean)) ∈ lw_all := lw_g (lw_at lw_m3 49 rfl) rfl
theorem q661 : (Jvm.Cond.methodLink "SecretsWorth" (280 : Nat) ({ cls := "SecretsWorth", name := "worthOf", desc := "(I)LSecretsWorth$Ratio;" } : Jvm.MethodName)) ∈ lw_all := lw_g (lw_at lw_m3 50 rfl) rfl
theorem q662 : (Jvm.Cond.privateMethod ({ cls := "SecretsWorth", name := "worthOf", desc := "(I)LSecretsWorth$Ratio;" } : Jvm.MethodName)) ∈ lw_tbl := lw_at lw_m3 51 rfl
theorem q663 : (Jvm.Cond.instanceMethod ({ cls := "SecretsWorth", name := "worthOf", desc := "(I)LSecretsWorth$Ratio;" } : Jvm.MethodName)) ∈ lw_all := lw_g (lw_at lw_m3 52 rfl) rfl
theorem q664 : (Jvm.Cond.code ({ cls := "SecretsWorth", name := "worthOf", desc := "(I)LSecretsWorth$Ratio;" } : Jvm.MethodName) prog_1_method_31_code (3 : Nat) (Option.some (Jvm.ClassFile.FieldType.object "SecretsWorth$Ratio"))) ∈ lw_all := lw_g (lw_at lw_m3 53 rfl) rfl
theorem q665 : (Jvm.Cond.methodLink "SecretsWorth" (266 : Nat) ({ cls := "SecretsWorth", name := "laysAverage", desc := "(I)V" } : Jvm.MethodName)) ∈ lw_all := lw_g (lw_at lw_m3 54 rfl) rfl
theorem q666 : (Jvm.Cond.privateMethod ({ cls := "SecretsWorth", name := "laysAverage", desc := "(I)V" } : Jvm.MethodName)) ∈ lw_tbl := lw_at lw_m3 55 rfl
theorem q667 : (Jvm.Cond.instanceMethod ({ cls := "SecretsWorth", name := "laysAverage", desc := "(I)V" } : Jvm.MethodName)) ∈ lw_all := lw_g (lw_at lw_m3 56 rfl) rfl
theorem q668 : (Jvm.Cond.code ({ cls := "SecretsWorth", name := "laysAverage", desc := "(I)V" } : Jvm.MethodName) prog_1_method_29_code (4 : Nat) (Option.none : Option Jvm.ClassFile.FieldType)) ∈ lw_all := lw_g (lw_at lw_m3 57 rfl) rfl
theorem q669 : (Jvm.Cond.methodLink "SecretsWorth" (269 : Nat) ({ cls := "SecretsWorth", name := "kernel", desc := "()I" } : Jvm.MethodName)) ∈ lw_all := lw_g (lw_at lw_m3 58 rfl) rfl
theorem q670 : (Jvm.Cond.privateMethod ({ cls := "SecretsWorth", name := "kernel", desc := "()I" } : Jvm.MethodName)) ∈ lw_tbl := lw_at lw_m3 59 rfl
theorem q671 : (Jvm.Cond.instanceMethod ({ cls := "SecretsWorth", name := "kernel", desc := "()I" } : Jvm.MethodName)) ∈ lw_all := lw_g (lw_at lw_m3 60 rfl) rfl
theorem q672 : (Jvm.Cond.code ({ cls := "SecretsWorth", name := "kernel", desc := "()I" } : Jvm.MethodName) prog_1_method_28_code (4 : Nat) (Option.some Jvm.ClassFile.FieldType.int)) ∈ lw_all := lw_g (lw_at lw_m3 61 rfl) rfl
theorem q673 : (Jvm.Cond.methodLink "SecretsWorth" (252 : Nat) ({ cls := "SecretsWorth", name := "places", desc := "(I[I)V" } : Jvm.MethodName)) ∈ lw_all := lw_g (lw_at lw_m3 62 rfl) rfl
theorem q674 : (Jvm.Cond.static ({ cls := "SecretsWorth", name := "places", desc := "(I[I)V" } : Jvm.MethodName)) ∈ lw_all := lw_g (lw_at lw_m3 63 rfl) rfl
theorem q675 : (Jvm.Cond.code ({ cls := "SecretsWorth", name := "places", desc := "(I[I)V" } : Jvm.MethodName) prog_1_method_20_code (4 : Nat) (Option.none : Option Jvm.ClassFile.FieldType)) ∈ lw_all := lw_g (lw_at lw_m3 64 rfl) rfl
theorem q676 : (Jvm.Cond.methodLink "SecretsWorth" (211 : Nat) ({ cls := "java/lang/Integer", name := "numberOfTrailingZeros", desc := "(I)I" } : Jvm.MethodName)) ∈ lw_all := lw_g (lw_at lw_m3 65 rfl) rfl
theorem q677 : (Jvm.Cond.static ({ cls := "java/lang/Integer", name := "numberOfTrailingZeros", desc := "(I)I" } : Jvm.MethodName)) ∈ lw_all := lw_g (lw_at lw_m3 66 rfl) rfl
theorem q678 : (Jvm.Cond.code ({ cls := "java/lang/Integer", name := "numberOfTrailingZeros", desc := "(I)I" } : Jvm.MethodName) prog_19_method_48_code (2 : Nat) (Option.some Jvm.ClassFile.FieldType.int)) ∈ lw_all := lw_g (lw_at lw_m3 67 rfl) rfl
theorem q679 : (Jvm.Cond.constant "java/lang/Integer" (264 : Nat) (65536 : Int32)) ∈ lw_all := lw_g (lw_at lw_m3 68 rfl) rfl
theorem q680 : (Jvm.Cond.methodLink "SecretsWorth" (256 : Nat) ({ cls := "SecretsWorth", name := "solves", desc := "(I)Z" } : Jvm.MethodName)) ∈ lw_all := lw_g (lw_at lw_m3 69 rfl) rfl
theorem q681 : (Jvm.Cond.privateMethod ({ cls := "SecretsWorth", name := "solves", desc := "(I)Z" } : Jvm.MethodName)) ∈ lw_tbl := lw_at lw_m3 70 rfl
theorem q682 : (Jvm.Cond.instanceMethod ({ cls := "SecretsWorth", name := "solves", desc := "(I)Z" } : Jvm.MethodName)) ∈ lw_all := lw_g (lw_at lw_m3 71 rfl) rfl
theorem q683 : (Jvm.Cond.code ({ cls := "SecretsWorth", name := "solves", desc := "(I)Z" } : Jvm.MethodName) prog_1_method_25_code (8 : Nat) (Option.some Jvm.ClassFile.FieldType.boolean)) ∈ lw_all := lw_g (lw_at lw_m3 72 rfl) rfl
theorem q684 : (Jvm.Cond.methodLink "SecretsWorth" (224 : Nat) ({ cls := "SecretsWorth", name := "border", desc := "(I)V" } : Jvm.MethodName)) ∈ lw_all := lw_g (lw_at lw_m3 73 rfl) rfl
theorem q685 : (Jvm.Cond.privateMethod ({ cls := "SecretsWorth", name := "border", desc := "(I)V" } : Jvm.MethodName)) ∈ lw_tbl := lw_at lw_m3 74 rfl
theorem q686 : (Jvm.Cond.instanceMethod ({ cls := "SecretsWorth", name := "border", desc := "(I)V" } : Jvm.MethodName)) ∈ lw_all := lw_g (lw_at lw_m3 75 rfl) rfl
theorem q687 : (Jvm.Cond.code ({ cls := "SecretsWorth", name := "border", desc := "(I)V" } : Jvm.MethodName) prog_1_method_22_code (4 : Nat) (Option.none : Option Jvm.ClassFile.FieldType)) ∈ lw_all := lw_g (lw_at lw_m3 76 rfl) rfl
theorem q688 : (Jvm.Cond.methodLink "SecretsWorth" (227 : Nat) ({ cls := "SecretsWorth", name := "minor", desc := "(III)J" } : Jvm.MethodName)) ∈ lw_all := lw_g (lw_at lw_m3 77 rfl) rfl
theorem q689 : (Jvm.Cond.privateMethod ({ cls := "SecretsWorth", name := "minor", desc := "(III)J" } : Jvm.MethodName)) ∈ lw_tbl := lw_at lw_m3 78 rfl
theorem q690 : (Jvm.Cond.instanceMethod ({ cls := "SecretsWorth", name := "minor", desc := "(III)J" } : Jvm.MethodName)) ∈ lw_all := lw_g (lw_at lw_m3 79 rfl) rfl
theorem q691 : (Jvm.Cond.code ({ cls := "SecretsWorth", name := "minor", desc := "(III)J" } : Jvm.MethodName) prog_1_method_23_code (7 : Nat) (Option.some Jvm.ClassFile.FieldType.long)) ∈ lw_all := lw_g (lw_at lw_m3 80 rfl) rfl
theorem q692 : (Jvm.Cond.methodLink "SecretsWorth" (217 : Nat) ({ cls := "java/lang/Integer", name := "bitCount", desc := "(I)I" } : Jvm.MethodName)) ∈ lw_all := lw_g (lw_at lw_m3 81 rfl) rfl
theorem q693 : (Jvm.Cond.static ({ cls := "java/lang/Integer", name := "bitCount", desc := "(I)I" } : Jvm.MethodName)) ∈ lw_all := lw_g (lw_at lw_m3 82 rfl) rfl
theorem q694 : (Jvm.Cond.code ({ cls := "java/lang/Integer", name := "bitCount", desc := "(I)I" } : Jvm.MethodName) prog_19_method_49_code (1 : Nat) (Option.some Jvm.ClassFile.FieldType.int)) ∈ lw_all := lw_g (lw_at lw_m3 83 rfl) rfl
theorem q695 : (Jvm.Cond.constant "java/lang/Integer" (265 : Nat) (1431655765 : Int32)) ∈ lw_all := lw_g (lw_at lw_m3 84 rfl) rfl
theorem q696 : (Jvm.Cond.constant "java/lang/Integer" (266 : Nat) (858993459 : Int32)) ∈ lw_all := lw_g (lw_at lw_m3 85 rfl) rfl
theorem q697 : (Jvm.Cond.constant "java/lang/Integer" (267 : Nat) (252645135 : Int32)) ∈ lw_all := lw_g (lw_at lw_m3 86 rfl) rfl
theorem q698 : (Jvm.Cond.methodLink "SecretsWorth" (220 : Nat) ({ cls := "SecretsWorth", name := "grown", desc := "(II)J" } : Jvm.MethodName)) ∈ lw_all := lw_g (lw_at lw_m3 87 rfl) rfl
theorem q699 : (Jvm.Cond.privateMethod ({ cls := "SecretsWorth", name := "grown", desc := "(II)J" } : Jvm.MethodName)) ∈ lw_tbl := lw_at lw_m3 88 rfl
theorem q700 : (Jvm.Cond.instanceMethod ({ cls := "SecretsWorth", name := "grown", desc := "(II)J" } : Jvm.MethodName)) ∈ lw_all := lw_g (lw_at lw_m3 89 rfl) rfl
theorem q701 : (Jvm.Cond.code ({ cls := "SecretsWorth", name := "grown", desc := "(II)J" } : Jvm.MethodName) prog_1_method_24_code (9 : Nat) (Option.some Jvm.ClassFile.FieldType.long)) ∈ lw_all := lw_g (lw_at lw_m3 90 rfl) rfl
theorem q702 : (Jvm.Cond.constantLong "SecretsWorth" (235 : Nat) (-1 : Int64)) ∈ lw_all := lw_g (lw_at lw_m3 91 rfl) rfl
theorem q703 : (Jvm.Cond.methodLink "SecretsWorth" (240 : Nat) ({ cls := "SecretsWorth", name := "holdsRows", desc := "(I)Z" } : Jvm.MethodName)) ∈ lw_all := lw_g (lw_at lw_m3 92 rfl) rfl
theorem q704 : (Jvm.Cond.privateMethod ({ cls := "SecretsWorth", name := "holdsRows", desc := "(I)Z" } : Jvm.MethodName)) ∈ lw_tbl := lw_at lw_m3 93 rfl
theorem q705 : (Jvm.Cond.instanceMethod ({ cls := "SecretsWorth", name := "holdsRows", desc := "(I)Z" } : Jvm.MethodName)) ∈ lw_all := lw_g (lw_at lw_m3 94 rfl) rfl
theorem q706 : (Jvm.Cond.code ({ cls := "SecretsWorth", name := "holdsRows", desc := "(I)Z" } : Jvm.MethodName) prog_1_method_26_code (6 : Nat) (Option.some Jvm.ClassFile.FieldType.boolean)) ∈ lw_all := lw_g (lw_at lw_m3 95 rfl) rfl
theorem q707 : (Jvm.Cond.methodLink "SecretsWorth" (243 : Nat) ({ cls := "SecretsWorth", name := "holdsColumns", desc := "(I)Z" } : Jvm.MethodName)) ∈ lw_all := lw_g (lw_at lw_m3 96 rfl) rfl
theorem q708 : (Jvm.Cond.privateMethod ({ cls := "SecretsWorth", name := "holdsColumns", desc := "(I)Z" } : Jvm.MethodName)) ∈ lw_tbl := lw_at lw_m3 97 rfl
theorem q709 : (Jvm.Cond.instanceMethod ({ cls := "SecretsWorth", name := "holdsColumns", desc := "(I)Z" } : Jvm.MethodName)) ∈ lw_all := lw_g (lw_at lw_m3 98 rfl) rfl
theorem q710 : (Jvm.Cond.code ({ cls := "SecretsWorth", name := "holdsColumns", desc := "(I)Z" } : Jvm.MethodName) prog_1_method_27_code (6 : Nat) (Option.some Jvm.ClassFile.FieldType.boolean)) ∈ lw_all := lw_g (lw_at lw_m3 99 rfl) rfl
theorem q711 : (Jvm.Cond.methodLink "SecretsWorth" (259 : Nat) ({ cls := "SecretsWorth", name := "nextSet", desc := "(I)I" } : Jvm.MethodName)) ∈ lw_all := lw_g (lw_at lw_m3 100 rfl) rfl
theorem q712 : (Jvm.Cond.static ({ cls := "SecretsWorth", name := "nextSet", desc := "(I)I" } : Jvm.MethodName)) ∈ lw_all := lw_g (lw_at lw_m3 101 rfl) rfl
theorem q713 : (Jvm.Cond.code ({ cls := "SecretsWorth", name := "nextSet", desc := "(I)I" } : Jvm.MethodName) prog_1_method_21_code (3 : Nat) (Option.some Jvm.ClassFile.FieldType.int)) ∈ lw_all := lw_g (lw_at lw_m3 102 rfl) rfl
theorem q714 : (Jvm.Cond.methodLink "SecretsWorth" (273 : Nat) ({ cls := "SecretsWorth$Ratio", name := "is", desc := "(JJ)LSecretsWorth$Ratio;" } : Jvm.MethodName)) ∈ lw_all := lw_g (lw_at lw_m3 103 rfl) rfl
theorem q715 : (Jvm.Cond.instanceMethod ({ cls := "SecretsWorth$Ratio", name := "is", desc := "(JJ)LSecretsWorth$Ratio;" } : Jvm.MethodName)) ∈ lw_all := lw_g (lw_at lw_m3 104 rfl) rfl
theorem q716 : (Jvm.Cond.selects "SecretsWorth$Ratio" ({ cls := "SecretsWorth$Ratio", name := "is", desc := "(JJ)LSecretsWorth$Ratio;" } : Jvm.MethodName) ({ cls := "SecretsWorth$Ratio", name := "is", desc := "(JJ)LSecretsWorth$Ratio;" } : Jvm.MethodName)) ∈ lw_all := lw_g (lw_at lw_m3 105 rfl) rfl
theorem q717 : (Jvm.Cond.code ({ cls := "SecretsWorth$Ratio", name := "is", desc := "(JJ)LSecretsWorth$Ratio;" } : Jvm.MethodName) prog_5_method_3_code (11 : Nat) (Option.some (Jvm.ClassFile.FieldType.object "SecretsWorth$Ratio"))) ∈ lw_all := lw_g (lw_at lw_m3 106 rfl) rfl
theorem q718 : (Jvm.Cond.methodLink "SecretsWorth$Ratio" (13 : Nat) ({ cls := "java/lang/Math", name := "negateExact", desc := "(J)J" } : Jvm.MethodName)) ∈ lw_all := lw_g (lw_at lw_m3 107 rfl) rfl
theorem q719 : (Jvm.Cond.static ({ cls := "java/lang/Math", name := "negateExact", desc := "(J)J" } : Jvm.MethodName)) ∈ lw_all := lw_g (lw_at lw_m3 108 rfl) rfl
theorem q720 : (Jvm.Cond.code ({ cls := "java/lang/Math", name := "negateExact", desc := "(J)J" } : Jvm.MethodName) prog_21_method_42_code (2 : Nat) (Option.some Jvm.ClassFile.FieldType.long)) ∈ lw_all := lw_g (lw_at lw_m3 109 rfl) rfl
theorem q721 : (Jvm.Cond.constantLong "java/lang/Math" (128 : Nat) (-9223372036854775808 : Int64)) ∈ lw_all := lw_g (lw_at lw_m3 110 rfl) rfl
theorem q722 : (Jvm.Cond.classLink "java/lang/Math" (109 : Nat) "java/lang/ArithmeticException") ∈ lw_all := lw_g (lw_at lw_m3 111 rfl) rfl
theorem q723 : (Jvm.Cond.instantiable "java/lang/ArithmeticException" (6 : Nat)) ∈ lw_all := lw_g (lw_at lw_m3 112 rfl) rfl
theorem q724 : (Jvm.Cond.castable "java/lang/ArithmeticException" "java/lang/ArithmeticException") ∈ lw_tbl := lw_at lw_m3 113 rfl
theorem q725 : (Jvm.Cond.selects "java/lang/ArithmeticException" ({ cls := "java/lang/Throwable", name := "fillInStackTrace", desc := "(I)Ljava/lang/Throwable;" } : Jvm.MethodName) ({ cls := "java/lang/Throwable", name := "fillInStackTrace", desc := "(I)Ljava/lang/Throwable;" } : Jvm.MethodName)) ∈ lw_all := lw_g (lw_at lw_m3 114 rfl) rfl
theorem q726 : (Jvm.Cond.lays "java/lang/ArithmeticException" "java/lang/Throwable" "cause" "Ljava/lang/Throwable;") ∈ lw_all := lw_g (lw_at lw_m3 115 rfl) rfl
theorem q727 : (Jvm.Cond.lays "java/lang/ArithmeticException" "java/lang/Throwable" "stackTrace" "[Ljava/lang/StackTraceElement;") ∈ lw_all := lw_g (lw_at lw_m3 116 rfl) rfl
theorem q728 : (Jvm.Cond.lays "java/lang/ArithmeticException" "java/lang/Throwable" "suppressedExceptions" "Ljava/util/List;") ∈ lw_all := lw_g (lw_at lw_m3 117 rfl) rfl
theorem q729 : (Jvm.Cond.lays "java/lang/ArithmeticException" "java/lang/Throwable" "detailMessage" "Ljava/lang/String;") ∈ lw_all := lw_g (lw_at lw_m3 118 rfl) rfl
theorem q730 : (Jvm.Cond.lays "java/lang/ArithmeticException" "java/lang/Throwable" "backtrace" "Ljava/lang/Object;") ∈ lw_all := lw_g (lw_at lw_m3 119 rfl) rfl
theorem q731 : (Jvm.Cond.stringRef "java/lang/Math" (116 : Nat) "long overflow") ∈ lw_tbl := lw_at lw_m3 120 rfl
theorem q732 : (Jvm.Cond.methodLink "java/lang/Math" (113 : Nat) ({ cls := "java/lang/ArithmeticException", name := "<init>", desc := "(Ljava/lang/String;)V" } : Jvm.MethodName)) ∈ lw_all := lw_g (lw_at lw_m3 121 rfl) rfl
theorem q733 : (Jvm.Cond.instanceMethod ({ cls := "java/lang/ArithmeticException", name := "<init>", desc := "(Ljava/lang/String;)V" } : Jvm.MethodName)) ∈ lw_all := lw_g (lw_at lw_m3 122 rfl) rfl
theorem q734 : (Jvm.Cond.code ({ cls := "java/lang/ArithmeticException", name := "<init>", desc := "(Ljava/lang/String;)V" } : Jvm.MethodName) prog_13_method_2_code (2 : Nat) (Option.none : Option Jvm.ClassFile.FieldType)) ∈ lw_all := lw_g (lw_at lw_m3 123 rfl) rfl
theorem q735 : (Jvm.Cond.methodLink "java/lang/ArithmeticException" (7 : Nat) ({ cls := "java/lang/RuntimeException", name := "<init>", desc := "(Ljava/lang/String;)V" } : Jvm.MethodName)) ∈ lw_all := lw_g (lw_at lw_m3 124 rfl) rfl
theorem q736 : (Jvm.Cond.lays "java/lang/ArithmeticException" "java/lang/Throwable" "depth" "I") ∈ lw_all := lw_g (lw_at lw_m3 125 rfl) rfl
theorem q737 : (Jvm.Cond.superclass "java/lang/ArithmeticException" "java/lang/RuntimeException") ∈ lw_all := lw_g (lw_at lw_m3 126 rfl) rfl
theorem q738 : (Jvm.Cond.methodLink "SecretsWorth$Ratio" (19 : Nat) ({ cls := "SecretsWorth$Ratio", name := "divisor", desc := "(JJ)J" } : Jvm.MethodName)) ∈ lw_all := lw_g (lw_at lw_m3 127 rfl) rfl
theorem q739 : (Jvm.Cond.static ({ cls := "SecretsWorth$Ratio", name := "divisor", desc := "(JJ)J" } : Jvm.MethodName)) ∈ lw_all := lw_g (lw_at lw_m3 128 rfl) rfl
theorem q740 : (Jvm.Cond.code ({ cls := "SecretsWorth$Ratio", name := "divisor", desc := "(JJ)J" } : Jvm.MethodName) prog_5_method_2_code (10 : Nat) (Option.some Jvm.ClassFile.FieldType.long)) ∈ lw_all := lw_g (lw_at lw_m3 129 rfl) rfl
theorem q741 : (Jvm.Cond.methodLink "SecretsWorth" (367 : Nat) ({ cls := "SecretsWorth$Ratio", name := "part", desc := "(I)J" } : Jvm.MethodName)) ∈ lw_all := lw_g (lw_at lw_m3 130 rfl) rfl
theorem q742 : (Jvm.Cond.instanceMethod ({ cls := "SecretsWorth$Ratio", name := "part", desc := "(I)J" } : Jvm.MethodName)) ∈ lw_all := lw_g (lw_at lw_m3 131 rfl) rfl
theorem q743 : (Jvm.Cond.selects "SecretsWorth$Ratio" ({ cls := "SecretsWorth$Ratio", name := "part", desc := "(I)J" } : Jvm.MethodName) ({ cls := "SecretsWorth$Ratio", name := "part", desc := "(I)J" } : Jvm.MethodName)) ∈ lw_all := lw_g (lw_at lw_m3 132 rfl) rfl
theorem q744 : (Jvm.Cond.code ({ cls := "SecretsWorth$Ratio", name := "part", desc := "(I)J" } : Jvm.MethodName) prog_5_method_11_code (2 : Nat) (Option.some Jvm.ClassFile.FieldType.long)) ∈ lw_all := lw_g (lw_at lw_m3 133 rfl) rfl
theorem q745 : (Jvm.Cond.methodLink "SecretsWorth" (28 : Nat) ({ cls := "SecretsWorth", name := "answersFar", desc := "(LSecretsWorth$Wrong;)J" } : Jvm.MethodName)) ∈ lw_all := lw_g (lw_at lw_m3 134 rfl) rfl
theorem q746 : (Jvm.Cond.privateMethod ({ cls := "SecretsWorth", name := "answersFar", desc := "(LSecretsWorth$Wrong;)J" } : Jvm.MethodName)) ∈ lw_tbl := lw_at lw_m3 135 rfl
theorem q747 : (Jvm.Cond.instanceMethod ({ cls := "SecretsWorth", name := "answersFar", desc := "(LSecretsWorth$Wrong;)J" } : Jvm.MethodName)) ∈ lw_all := lw_g (lw_at lw_m3 136 rfl) rfl
theorem q748 : (Jvm.Cond.code ({ cls := "SecretsWorth", name := "answersFar", desc := "(LSecretsWorth$Wrong;)J" } : Jvm.MethodName) prog_1_method_5_code (2 : Nat) (Option.some Jvm.ClassFile.FieldType.long)) ∈ lw_all := lw_g (lw_at lw_m3 137 rfl) rfl
theorem q749 : (Jvm.Cond.constantLong "SecretsWorth" (22 : Nat) (-9000000000000000000 : Int64)) ∈ lw_all := lw_g (lw_at lw_m3 138 rfl) rfl
theorem q750 : (Jvm.Cond.methodLink "SecretsWorthLaw" (62 : Nat) ({ cls := "SecretsWorth", name := "plan", desc := "(IIII)J" } : Jvm.MethodName)) ∈ lw_all := lw_g (lw_at lw_m3 139 rfl) rfl
theorem q751 : (Jvm.Cond.instanceMethod ({ cls := "SecretsWorth", name := "plan", desc := "(IIII)J" } : Jvm.MethodName)) ∈ lw_all := lw_g (lw_at lw_m3 140 rfl) rfl
theorem q752 : (Jvm.Cond.selects "SecretsWorth" ({ cls := "SecretsWorth", name := "plan", desc := "(IIII)J" } : Jvm.MethodName) ({ cls := "SecretsWorth", name := "plan", desc := "(IIII)J" } : Jvm.MethodName)) ∈ lw_all := lw_g (lw_at lw_m3 141 rfl) rfl
theorem q753 : (Jvm.Cond.codeWith ({ cls := "SecretsWorth", name := "plan", desc := "(IIII)J" } : Jvm.MethodName) prog_1_method_51_code (9 : Nat) (Option.some Jvm.ClassFile.FieldType.long) [((0 : Nat), (136 : Nat), (137 : Nat), (1 : Nat))]) ∈ lw_all := lw_g (lw_at lw_m3 142 rfl) rfl
theorem q754 : (Jvm.Cond.methodLink "SecretsWorth" (370 : Nat) ({ cls := "SecretsWorth", name := "isLine", desc := "(II)Z" } : Jvm.MethodName)) ∈ lw_all := lw_g (lw_at lw_m3 143 rfl) rfl
theorem q755 : (Jvm.Cond.privateMethod ({ cls := "SecretsWorth", name := "isLine", desc := "(II)Z" } : Jvm.MethodName)) ∈ lw_tbl := lw_at lw_m3 144 rfl
theorem q756 : (Jvm.Cond.instanceMethod ({ cls := "SecretsWorth", name := "isLine", desc := "(II)Z" } : Jvm.MethodName)) ∈ lw_all := lw_g (lw_at lw_m3 145 rfl) rfl
theorem q757 : (Jvm.Cond.code ({ cls := "SecretsWorth", name := "isLine", desc := "(II)Z" } : Jvm.MethodName) prog_1_method_50_code (3 : Nat) (Option.some Jvm.ClassFile.FieldType.boolean)) ∈ lw_all := lw_g (lw_at lw_m3 146 rfl) rfl
theorem q758 : (Jvm.Cond.methodLink "SecretsWorthLaw" (67 : Nat) ({ cls := "SecretsWorth", name := "mix", desc := "(IIIII)J" } : Jvm.MethodName)) ∈ lw_all := lw_g (lw_at lw_m3 147 rfl) rfl
theorem q759 : (Jvm.Cond.instanceMethod ({ cls := "SecretsWorth", name := "mix", desc := "(IIIII)J" } : Jvm.MethodName)) ∈ lw_all := lw_g (lw_at lw_m3 148 rfl) rfl
theorem q760 : (Jvm.Cond.selects "SecretsWorth" ({ cls := "SecretsWorth", name := "mix", desc := "(IIIII)J" } : Jvm.MethodName) ({ cls := "SecretsWorth", name := "mix", desc := "(IIIII)J" } : Jvm.MethodName)) ∈ lw_all := lw_g (lw_at lw_m3 149 rfl) rfl
theorem q761 : (Jvm.Cond.codeWith ({ cls := "SecretsWorth", name := "mix", desc := "(IIIII)J" } : Jvm.MethodName) prog_1_method_53_code (7 : Nat) (Option.some Jvm.ClassFile.FieldType.long) [((0 : Nat), (197 : Nat), (198 : Nat), (377 : Nat)), ((0 : Nat), (197 : Nat), (205 : Nat), (1 : Nat))]) ∈ lw_all := lw_g (lw_at lw_m3 150 rfl) rfl
theorem q762 : (Jvm.Cond.classLink "SecretsWorth" (377 : Nat) "java/lang/ArithmeticException") ∈ lw_all := lw_g (lw_at lw_m3 151 rfl) rfl
theorem q763 : (Jvm.Cond.methodLink "SecretsWorth" (374 : Nat) ({ cls := "SecretsWorth", name := "isToldPoint", desc := "(I)Z" } : Jvm.MethodName)) ∈ lw_all := lw_g (lw_at lw_m3 152 rfl) rfl
theorem q764 : (Jvm.Cond.privateMethod ({ cls := "SecretsWorth", name := "isToldPoint", desc := "(I)Z" } : Jvm.MethodName)) ∈ lw_tbl := lw_at lw_m3 153 rfl
theorem q765 : (Jvm.Cond.instanceMethod ({ cls := "SecretsWorth", name := "isToldPoint", desc := "(I)Z" } : Jvm.MethodName)) ∈ lw_all := lw_g (lw_at lw_m3 154 rfl) rfl
theorem q766 : (Jvm.Cond.code ({ cls := "SecretsWorth", name := "isToldPoint", desc := "(I)Z" } : Jvm.MethodName) prog_1_method_52_code (2 : Nat) (Option.some Jvm.ClassFile.FieldType.boolean)) ∈ lw_all := lw_g (lw_at lw_m3 155 rfl) rfl
theorem q767 : (Jvm.Cond.methodLink "SecretsWorth" (321 : Nat) ({ cls := "SecretsWorth", name := "splits", desc := "(I[II)Z" } : Jvm.MethodName)) ∈ lw_all := lw_g (lw_at lw_m3 156 rfl) rfl
theorem q768 : (Jvm.Cond.privateMethod ({ cls := "SecretsWorth", name := "splits", desc := "(I[II)Z" } : Jvm.MethodName)) ∈ lw_tbl := lw_at lw_m3 157 rfl
theorem q769 : (Jvm.Cond.instanceMethod ({ cls := "SecretsWorth", name := "splits", desc := "(I[II)Z" } : Jvm.MethodName)) ∈ lw_all := lw_g (lw_at lw_m3 158 rfl) rfl
theorem q770 : (Jvm.Cond.code ({ cls := "SecretsWorth", name := "splits", desc := "(I[II)Z" } : Jvm.MethodName) prog_1_method_37_code (6 : Nat) (Option.some Jvm.ClassFile.FieldType.boolean)) ∈ lw_all := lw_g (lw_at lw_m3 159 rfl) rfl
theorem q771 : (Jvm.Cond.methodLink "SecretsWorth" (296 : Nat) ({ cls := "SecretsWorth", name := "weighs", desc := "(I[II)Z" } : Jvm.MethodName)) ∈ lw_all := lw_g (lw_at lw_m3 160 rfl) rfl
theorem q772 : (Jvm.Cond.privateMethod ({ cls := "SecretsWorth", name := "weighs", desc := "(I[II)Z" } : Jvm.MethodName)) ∈ lw_tbl := lw_at lw_m3 161 rfl
theorem q773 : (Jvm.Cond.instanceMethod ({ cls := "SecretsWorth", name := "weighs", desc := "(I[II)Z" } : Jvm.MethodName)) ∈ lw_all := lw_g (lw_at lw_m3 162 rfl) rfl
theorem q774 : (Jvm.Cond.code ({ cls := "SecretsWorth", name := "weighs", desc := "(I[II)Z" } : Jvm.MethodName) prog_1_method_36_code (7 : Nat) (Option.some Jvm.ClassFile.FieldType.boolean)) ∈ lw_all := lw_g (lw_at lw_m3 163 rfl) rfl
theorem q775 : (Jvm.Cond.methodLink "SecretsWorth" (288 : Nat) ({ cls := "SecretsWorth", name := "weighsTwo", desc := "([I[I[I)Z" } : Jvm.MethodName)) ∈ lw_all := lw_g (lw_at lw_m3 164 rfl) rfl
theorem q776 : (Jvm.Cond.privateMethod ({ cls := "SecretsWorth", name := "weighsTwo", desc := "([I[I[I)Z" } : Jvm.MethodName)) ∈ lw_tbl := lw_at lw_m3 165 rfl
theorem q777 : (Jvm.Cond.instanceMethod ({ cls := "SecretsWorth", name := "weighsTwo", desc := "([I[I[I)Z" } : Jvm.MethodName)) ∈ lw_all := lw_g (lw_at lw_m3 166 rfl) rfl
theorem q778 : (Jvm.Cond.code ({ cls := "SecretsWorth", name := "weighsTwo", desc := "([I[I[I)Z" } : Jvm.MethodName) prog_1_method_34_code (8 : Nat) (Option.some Jvm.ClassFile.FieldType.boolean)) ∈ lw_all := lw_g (lw_at lw_m3 167 rfl) rfl
theorem q779 : (Jvm.Cond.methodLink "SecretsWorth" (292 : Nat) ({ cls := "SecretsWorth", name := "weighsThree", desc := "([I[I[I[I)Z" } : Jvm.MethodName)) ∈ lw_all := lw_g (lw_at lw_m3 168 rfl) rfl
theorem q780 : (Jvm.Cond.privateMethod ({ cls := "SecretsWorth", name := "weighsThree", desc := "([I[I[I[I)Z" } : Jvm.MethodName)) ∈ lw_tbl := lw_at lw_m3 169 rfl
theorem q781 : (Jvm.Cond.instanceMethod ({ cls := "SecretsWorth", name := "weighsThree", desc := "([I[I[I[I)Z" } : Jvm.MethodName)) ∈ lw_all := lw_g (lw_at lw_m3 170 rfl) rfl
theorem q782 : (Jvm.Cond.code ({ cls := "SecretsWorth", name := "weighsThree", desc := "([I[I[I[I)Z" } : Jvm.MethodName) prog_1_method_35_code (8 : Nat) (Option.some Jvm.ClassFile.FieldType.boolean)) ∈ lw_all := lw_g (lw_at lw_m3 171 rfl) rfl
theorem q783 : (Jvm.Cond.methodLink "SecretsWorth" (284 : Nat) ({ cls := "SecretsWorth", name := "cross", desc := "([I[I[I)I" } : Jvm.MethodName)) ∈ lw_all := lw_g (lw_at lw_m3 172 rfl) rfl
theorem q784 : (Jvm.Cond.static ({ cls := "SecretsWorth", name := "cross", desc := "([I[I[I)I" } : Jvm.MethodName)) ∈ lw_all := lw_g (lw_at lw_m3 173 rfl) rfl
theorem q785 : (Jvm.Cond.code ({ cls := "SecretsWorth", name := "cross", desc := "([I[I[I)I" } : Jvm.MethodName) prog_1_method_33_code (3 : Nat) (Option.some Jvm.ClassFile.FieldType.int)) ∈ lw_all := lw_g (lw_at lw_m3 174 rfl) rfl
theorem q786 : (Jvm.Cond.methodLink "SecretsWorth" (300 : Nat) ({ cls := "SecretsWorth$Ratio", name := "isAbove", desc := "()Z" } : Jvm.MethodName)) ∈ lw_all := lw_g (lw_at lw_m3 175 rfl) rfl
theorem q787 : (Jvm.Cond.instanceMethod ({ cls := "SecretsWorth$Ratio", name := "isAbove", desc := "()Z" } : Jvm.MethodName)) ∈ lw_all := lw_g (lw_at lw_m3 176 rfl) rfl
theorem q788 : (Jvm.Cond.selects "SecretsWorth$Ratio" ({ cls := "SecretsWorth$Ratio", name := "isAbove", desc := "()Z" } : Jvm.MethodName) ({ cls := "SecretsWorth$Ratio", name := "isAbove", desc := "()Z" } : Jvm.MethodName)) ∈ lw_all := lw_g (lw_at lw_m3 177 rfl) rfl
theorem q789 : (Jvm.Cond.code ({ cls := "SecretsWorth$Ratio", name := "isAbove", desc := "()Z" } : Jvm.MethodName) prog_5_method_9_code (1 : Nat) (Option.some Jvm.ClassFile.FieldType.boolean)) ∈ lw_all := lw_g (lw_at lw_m3 178 rfl) rfl
theorem q790 : (Jvm.Cond.methodLink "SecretsWorth" (337 : Nat) ({ cls := "SecretsWorth", name := "allWorths", desc := "()V" } : Jvm.MethodName)) ∈ lw_all := lw_g (lw_at lw_m3 179 rfl) rfl
theorem q791 : (Jvm.Cond.privateMethod ({ cls := "SecretsWorth", name := "allWorths", desc := "()V" } : Jvm.MethodName)) ∈ lw_tbl := lw_at lw_m3 180 rfl
theorem q792 : (Jvm.Cond.instanceMethod ({ cls := "SecretsWorth", name := "allWorths", desc := "()V" } : Jvm.MethodName)) ∈ lw_all := lw_g (lw_at lw_m3 181 rfl) rfl
theorem q793 : (Jvm.Cond.code ({ cls := "SecretsWorth", name := "allWorths", desc := "()V" } : Jvm.MethodName) prog_1_method_32_code (3 : Nat) (Option.none : Option Jvm.ClassFile.FieldType)) ∈ lw_all := lw_g (lw_at lw_m3 182 rfl) rfl
theorem q794 : (Jvm.Cond.methodLink "SecretsWorth" (324 : Nat) ({ cls := "SecretsWorth", name := "mixes", desc := "([II)LSecretsWorth$Ratio;" } : Jvm.MethodName)) ∈ lw_all := lw_g (lw_at lw_m3 183 rfl) rfl
theorem q795 : (Jvm.Cond.privateMethod ({ cls := "SecretsWorth", name := "mixes", desc := "([II)LSecretsWorth$Ratio;" } : Jvm.MethodName)) ∈ lw_tbl := lw_at lw_m3 184 rfl
theorem q796 : (Jvm.Cond.instanceMethod ({ cls := "SecretsWorth", name := "mixes", desc := "([II)LSecretsWorth$Ratio;" } : Jvm.MethodName)) ∈ lw_all := lw_g (lw_at lw_m3 185 rfl) rfl
theorem q797 : (Jvm.Cond.code ({ cls := "SecretsWorth", name := "mixes", desc := "([II)LSecretsWorth$Ratio;" } : Jvm.MethodName) prog_1_method_38_code (4 : Nat) (Option.some (Jvm.ClassFile.FieldType.object "SecretsWorth$Ratio"))) ∈ lw_all := lw_g (lw_at lw_m3 186 rfl) rfl
theorem q798 : (Jvm.Cond.methodLink "SecretsWorth" (304 : Nat) ({ cls := "SecretsWorth$Ratio", name := "as", desc := "(LSecretsWorth$Ratio;)LSecretsWorth$Ratio;" } : Jvm.MethodName)) ∈ lw_all := lw_g (lw_at lw_m3 187 rfl) rfl
theorem q799 : (Jvm.Cond.instanceMethod ({ cls := "SecretsWorth$Ratio", name := "as", desc := "(LSecretsWorth$Ratio;)LSecretsWorth$Ratio;" } : Jvm.MethodName)) ∈ lw_all := lw_g (lw_at lw_m3 188 rfl) rfl
theorem q800 : (Jvm.Cond.selects "SecretsWorth$Ratio" ({ cls := "SecretsWorth$Ratio", name := "as", desc := "(LSecretsWorth$Ratio;)LSecretsWorth$Ratio;" } : Jvm.MethodName) ({ cls := "SecretsWorth$Ratio", name := "as", desc := "(LSecretsWorth$Ratio;)LSecretsWorth$Ratio;" } : Jvm.MethodName)) ∈ lw_all := lw_g (lw_at lw_m3 189 rfl) rfl
theorem q801 : (Jvm.Cond.code ({ cls := "SecretsWorth$Ratio", name := "as", desc := "(LSecretsWorth$Ratio;)LSecretsWorth$Ratio;" } : Jvm.MethodName) prog_5_method_4_code (2 : Nat) (Option.some (Jvm.ClassFile.FieldType.object "SecretsWorth$Ratio"))) ∈ lw_all := lw_g (lw_at lw_m3 190 rfl) rfl
theorem q802 : (Jvm.Cond.methodLink "SecretsWorth" (308 : Nat) ({ cls := "SecretsWorth$Ratio", name := "times", desc := "(LSecretsWorth$Ratio;LSecretsWorth$Ratio;)LSecretsWorth$Ratio;" } : Jvm.MethodName)) ∈ lw_all := lw_g (lw_at lw_m3 191 rfl) rfl
theorem q803 : (Jvm.Cond.instanceMethod ({ cls := "SecretsWorth$Ratio", name := "times", desc := "(LSecretsWorth$Ratio;LSecretsWorth$Ratio;)LSecretsWorth$Ratio;" } : Jvm.MethodName)) ∈ lw_all := lw_g (lw_at lw_m3 192 rfl) rfl
theorem q804 : (Jvm.Cond.selects "SecretsWorth$Ratio" ({ cls := "SecretsWorth$Ratio", name := "times", desc := "(LSecretsWorth$Ratio;LSecretsWorth$Ratio;)LSecretsWorth$Ratio;" } : Jvm.MethodName) ({ cls := "SecretsWorth$Ratio", name := "times", desc := "(LSecretsWorth$Ratio;LSecretsWorth$Ratio;)LSecretsWorth$Ratio;" } : Jvm.MethodName)) ∈ lw_all := lw_g (lw_at lw_m3 193 rfl) rfl
theorem q805 : (Jvm.Cond.code ({ cls := "SecretsWorth$Ratio", name := "times", desc := "(LSecretsWorth$Ratio;LSecretsWorth$Ratio;)LSecretsWorth$Ratio;" } : Jvm.MethodName) prog_5_method_7_code (5 : Nat) (Option.some (Jvm.ClassFile.FieldType.object "SecretsWorth$Ratio"))) ∈ lw_all := lw_g (lw_at lw_m3 194 rfl) rfl
theorem q806 : (Jvm.Cond.methodLink "SecretsWorth$Ratio" (26 : Nat) ({ cls := "java/lang/Math", name := "multiplyExact", desc := "(JJ)J" } : Jvm.MethodName)) ∈ lw_all := lw_g (lw_at lw_m3 195 rfl) rfl
theorem q807 : (Jvm.Cond.static ({ cls := "java/lang/Math", name := "multiplyExact", desc := "(JJ)J" } : Jvm.MethodName)) ∈ lw_all := lw_g (lw_at lw_m3 196 rfl) rfl
theorem q808 : (Jvm.Cond.code ({ cls := "java/lang/Math", name := "multiplyExact", desc := "(JJ)J" } : Jvm.MethodName) prog_21_method_30_code (10 : Nat) (Option.some Jvm.ClassFile.FieldType.long)) ∈ lw_all := lw_g (lw_at lw_m3 197 rfl) rfl
theorem q809 : (Jvm.Cond.methodLink "java/lang/Math" (122 : Nat) ({ cls := "java/lang/Math", name := "abs", desc := "(J)J" } : Jvm.MethodName)) ∈ lw_all := lw_g (lw_at lw_m3 198 rfl) rfl
theorem q810 : (Jvm.Cond.static ({ cls := "java/lang/Math", name := "abs", desc := "(J)J" } : Jvm.MethodName)) ∈ lw_all := lw_g (lw_at lw_m3 199 rfl) rfl
theorem q811 : (Jvm.Cond.code ({ cls := "java/lang/Math", name := "abs", desc := "(J)J" } : Jvm.MethodName) prog_21_method_61_code (2 : Nat) (Option.some Jvm.ClassFile.FieldType.long)) ∈ lw_all := lw_g (lw_at lw_m3 200 rfl) rfl
theorem q812 : (Jvm.Cond.constantLong "java/lang/Math" (130 : Nat) (-1 : Int64)) ∈ lw_all := lw_g (lw_at lw_m3 201 rfl) rfl
theorem q813 : (Jvm.Cond.methodLink "SecretsWorth$Ratio" (32 : Nat) ({ cls := "SecretsWorth$Ratio", name := "is", desc := "(JJ)LSecretsWorth$Ratio;" } : Jvm.MethodName)) ∈ lw_all := lw_g (lw_at lw_m3 202 rfl) rfl
theorem q814 : (Jvm.Cond.methodLink "SecretsWorth" (312 : Nat) ({ cls := "SecretsWorth$Ratio", name := "add", desc := "(LSecretsWorth$Ratio;LSecretsWorth$Ratio;)LSecretsWorth$Ratio;" } : Jvm.MethodName)) ∈ lw_all := lw_g (lw_at lw_m3 203 rfl) rfl
theorem q815 : (Jvm.Cond.instanceMethod ({ cls := "SecretsWorth$Ratio", name := "add", desc := "(LSecretsWorth$Ratio;LSecretsWorth$Ratio;)LSecretsWorth$Ratio;" } : Jvm.MethodName)) ∈ lw_all := lw_g (lw_at lw_m3 204 rfl) rfl
theorem q816 : (Jvm.Cond.selects "SecretsWorth$Ratio" ({ cls := "SecretsWorth$Ratio", name := "add", desc := "(LSecretsWorth$Ratio;LSecretsWorth$Ratio;)LSecretsWorth$Ratio;" } : Jvm.MethodName) ({ cls := "SecretsWorth$Ratio", name := "add", desc := "(LSecretsWorth$Ratio;LSecretsWorth$Ratio;)LSecretsWorth$Ratio;" } : Jvm.MethodName)) ∈ lw_all := lw_g (lw_at lw_m3 205 rfl) rfl
theorem q817 : (Jvm.Cond.code ({ cls := "SecretsWorth$Ratio", name := "add", desc := "(LSecretsWorth$Ratio;LSecretsWorth$Ratio;)LSecretsWorth$Ratio;" } : Jvm.MethodName) prog_5_method_5_code (5 : Nat) (Option.some (Jvm.ClassFile.FieldType.object "SecretsWorth$Ratio"))) ∈ lw_all := lw_g (lw_at lw_m3 206 rfl) rfl
theorem q818 : (Jvm.Cond.methodLink "SecretsWorth$Ratio" (29 : Nat) ({ cls := "java/lang/Math", name := "addExact", desc := "(JJ)J" } : Jvm.MethodName)) ∈ lw_all := lw_g (lw_at lw_m3 207 rfl) rfl
theorem q819 : (Jvm.Cond.static ({ cls := "java/lang/Math", name := "addExact", desc := "(JJ)J" } : Jvm.MethodName)) ∈ lw_all := lw_g (lw_at lw_m3 208 rfl) rfl
theorem q820 : (Jvm.Cond.code ({ cls := "java/lang/Math", name := "addExact", desc := "(JJ)J" } : Jvm.MethodName) prog_21_method_25_code (6 : Nat) (Option.some Jvm.ClassFile.FieldType.long)) ∈ lw_all := lw_g (lw_at lw_m3 209 rfl) rfl
theorem q821 : (Jvm.Cond.methodLink "SecretsWorth" (379 : Nat) ({ cls := "SecretsWorth", name := "isFarBig", desc := "()J" } : Jvm.MethodName)) ∈ lw_all := lw_g (lw_at lw_m3 210 rfl) rfl
theorem q822 : (Jvm.Cond.privateMethod ({ cls := "SecretsWorth", name := "isFarBig", desc := "()J" } : Jvm.MethodName)) ∈ lw_tbl := lw_at lw_m3 211 rfl
theorem q823 : (Jvm.Cond.instanceMethod ({ cls := "SecretsWorth", name := "isFarBig", desc := "()J" } : Jvm.MethodName)) ∈ lw_all := lw_g (lw_at lw_m3 212 rfl) rfl
theorem q824 : (Jvm.Cond.code ({ cls := "SecretsWorth", name := "isFarBig", desc := "()J" } : Jvm.MethodName) prog_1_method_7_code (1 : Nat) (Option.some Jvm.ClassFile.FieldType.long)) ∈ lw_all := lw_g (lw_at lw_m3 213 rfl) rfl
theorem q825 : (Jvm.Cond.methodLink "SecretsWorthLaw" (72 : Nat) ({ cls := "SecretsWorth", name := "hull", desc := "(II)J" } : Jvm.MethodName)) ∈ lw_all := lw_g (lw_at lw_m3 214 rfl) rfl
theorem q826 : (Jvm.Cond.instanceMethod ({ cls := "SecretsWorth", name := "hull", desc := "(II)J" } : Jvm.MethodName)) ∈ lw_all := lw_g (lw_at lw_m3 215 rfl) rfl
theorem q827 : (Jvm.Cond.selects "SecretsWorth" ({ cls := "SecretsWorth", name := "hull", desc := "(II)J" } : Jvm.MethodName) ({ cls := "SecretsWorth", name := "hull", desc := "(II)J" } : Jvm.MethodName)) ∈ lw_all := lw_g (lw_at lw_m3 216 rfl) rfl
theorem q828 : (Jvm.Cond.codeWith ({ cls := "SecretsWorth", name := "hull", desc := "(II)J" } : Jvm.MethodName) prog_1_method_54_code (4 : Nat) (Option.some Jvm.ClassFile.FieldType.long) [((0 : Nat), (35 : Nat), (36 : Nat), (377 : Nat)), ((0 : Nat), (35 : Nat), (42 : Nat), (1 : Nat))]) ∈ lw_all := lw_g (lw_at lw_m3 217 rfl) rfl
theorem q829 : (Jvm.Cond.methodLink "SecretsWorth" (383 : Nat) ({ cls := "SecretsWorth", name := "hullNow", desc := "(I)LSecretsWorth$Ratio;" } : Jvm.MethodName)) ∈ lw_all := lw_g (lw_at lw_m3 218 rfl) rfl
theorem q830 : (Jvm.Cond.privateMethod ({ cls := "SecretsWorth", name := "hullNow", desc := "(I)LSecretsWorth$Ratio;" } : Jvm.MethodName)) ∈ lw_tbl := lw_at lw_m3 219 rfl
theorem q831 : (Jvm.Cond.instanceMethod ({ cls := "SecretsWorth", name := "hullNow", desc := "(I)LSecretsWorth$Ratio;" } : Jvm.MethodName)) ∈ lw_all := lw_g (lw_at lw_m3 220 rfl) rfl
theorem q832 : (Jvm.Cond.code ({ cls := "SecretsWorth", name := "hullNow", desc := "(I)LSecretsWorth$Ratio;" } : Jvm.MethodName) prog_1_method_43_code (2 : Nat) (Option.some (Jvm.ClassFile.FieldType.object "SecretsWorth$Ratio"))) ∈ lw_all := lw_g (lw_at lw_m3 221 rfl) rfl
theorem q833 : (Jvm.Cond.methodLink "SecretsWorth" (340 : Nat) ({ cls := "SecretsWorth", name := "hullOf", desc := "(I)LSecretsWorth$Ratio;" } : Jvm.MethodName)) ∈ lw_all := lw_g (lw_at lw_m3 222 rfl) rfl
theorem q834 : (Jvm.Cond.privateMethod ({ cls := "SecretsWorth", name := "hullOf", desc := "(I)LSecretsWorth$Ratio;" } : Jvm.MethodName)) ∈ lw_tbl := lw_at lw_m3 223 rfl
theorem q835 : (Jvm.Cond.instanceMethod ({ cls := "SecretsWorth", name := "hullOf", desc := "(I)LSecretsWorth$Ratio;" } : Jvm.MethodName)) ∈ lw_all := lw_g (lw_at lw_m3 224 rfl) rfl
theorem q836 : (Jvm.Cond.code ({ cls := "SecretsWorth", name := "hullOf", desc := "(I)LSecretsWorth$Ratio;" } : Jvm.MethodName) prog_1_method_42_code (5 : Nat) (Option.some (Jvm.ClassFile.FieldType.object "SecretsWorth$Ratio"))) ∈ lw_all := lw_g (lw_at lw_m3 225 rfl) rfl
theorem q837 : (Jvm.Cond.methodLink "SecretsWorth" (318 : Nat) ({ cls := "SecretsWorth", name := "firstSet", desc := "(I)Z" } : Jvm.MethodName)) ∈ lw_all := lw_g (lw_at lw_m3 226 rfl) rfl
theorem q838 : (Jvm.Cond.privateMethod ({ cls := "SecretsWorth", name := "firstSet", desc := "(I)Z" } : Jvm.MethodName)) ∈ lw_tbl := lw_at lw_m3 227 rfl
theorem q839 : (Jvm.Cond.instanceMethod ({ cls := "SecretsWorth", name := "firstSet", desc := "(I)Z" } : Jvm.MethodName)) ∈ lw_all := lw_g (lw_at lw_m3 228 rfl) rfl
theorem q840 : (Jvm.Cond.code ({ cls := "SecretsWorth", name := "firstSet", desc := "(I)Z" } : Jvm.MethodName) prog_1_method_39_code (3 : Nat) (Option.some Jvm.ClassFile.FieldType.boolean)) ∈ lw_all := lw_g (lw_at lw_m3 229 rfl) rfl
theorem q841 : (Jvm.Cond.methodLink "SecretsWorth" (328 : Nat) ({ cls := "SecretsWorth$Ratio", name := "less", desc := "(LSecretsWorth$Ratio;LSecretsWorth$Ratio;)LSecretsWorth$Ratio;" } : Jvm.MethodName)) ∈ lw_all := lw_g (lw_at lw_m3 230 rfl) rfl
theorem q842 : (Jvm.Cond.instanceMethod ({ cls := "SecretsWorth$Ratio", name := "less", desc := "(LSecretsWorth$Ratio;LSecretsWorth$Ratio;)LSecretsWorth$Ratio;" } : Jvm.MethodName)) ∈ lw_all := lw_g (lw_at lw_m3 231 rfl) rfl
theorem q843 : (Jvm.Cond.selects "SecretsWorth$Ratio" ({ cls := "SecretsWorth$Ratio", name := "less", desc := "(LSecretsWorth$Ratio;LSecretsWorth$Ratio;)LSecretsWorth$Ratio;" } : Jvm.MethodName) ({ cls := "SecretsWorth$Ratio", name := "less", desc := "(LSecretsWorth$Ratio;LSecretsWorth$Ratio;)LSecretsWorth$Ratio;" } : Jvm.MethodName)) ∈ lw_all := lw_g (lw_at lw_m3 232 rfl) rfl
theorem q844 : (Jvm.Cond.code ({ cls := "SecretsWorth$Ratio", name := "less", desc := "(LSecretsWorth$Ratio;LSecretsWorth$Ratio;)LSecretsWorth$Ratio;" } : Jvm.MethodName) prog_5_method_6_code (5 : Nat) (Option.some (Jvm.ClassFile.FieldType.object "SecretsWorth$Ratio"))) ∈ lw_all := lw_g (lw_at lw_m3 233 rfl) rfl
theorem q845 : (Jvm.Cond.methodLink "SecretsWorth$Ratio" (36 : Nat) ({ cls := "java/lang/Math", name := "subtractExact", desc := "(JJ)J" } : Jvm.MethodName)) ∈ lw_all := lw_g (lw_at lw_m3 234 rfl) rfl
theorem q846 : (Jvm.Cond.static ({ cls := "java/lang/Math", name := "subtractExact", desc := "(JJ)J" } : Jvm.MethodName)) ∈ lw_all := lw_g (lw_at lw_m3 235 rfl) rfl
theorem q847 : (Jvm.Cond.code ({ cls := "java/lang/Math", name := "subtractExact", desc := "(JJ)J" } : Jvm.MethodName) prog_21_method_27_code (6 : Nat) (Option.some Jvm.ClassFile.FieldType.long)) ∈ lw_all := lw_g (lw_at lw_m3 236 rfl) rfl
theorem q848 : (Jvm.Cond.methodLink "SecretsWorth" (331 : Nat) ({ cls := "SecretsWorth", name := "keepsBest", desc := "(I)V" } : Jvm.MethodName)) ∈ lw_all := lw_g (lw_at lw_m3 237 rfl) rfl
theorem q849 : (Jvm.Cond.privateMethod ({ cls := "SecretsWorth", name := "keepsBest", desc := "(I)V" } : Jvm.MethodName)) ∈ lw_tbl := lw_at lw_m3 238 rfl
theorem q850 : (Jvm.Cond.instanceMethod ({ cls := "SecretsWorth", name := "keepsBest", desc := "(I)V" } : Jvm.MethodName)) ∈ lw_all := lw_g (lw_at lw_m3 239 rfl) rfl
theorem q851 : (Jvm.Cond.code ({ cls := "SecretsWorth", name := "keepsBest", desc := "(I)V" } : Jvm.MethodName) prog_1_method_41_code (3 : Nat) (Option.none : Option Jvm.ClassFile.FieldType)) ∈ lw_all := lw_g (lw_at lw_m4 0 rfl) rfl
theorem q852 : (Jvm.Cond.methodLink "SecretsWorth" (334 : Nat) ({ cls := "SecretsWorth", name := "nextPoints", desc := "(I)Z" } : Jvm.MethodName)) ∈ lw_all := lw_g (lw_at lw_m4 1 rfl) rfl
theorem q853 : (Jvm.Cond.privateMethod ({ cls := "SecretsWorth", name := "nextPoints", desc := "(I)Z" } : Jvm.MethodName)) ∈ lw_tbl := lw_at lw_m4 2 rfl
theorem q854 : (Jvm.Cond.instanceMethod ({ cls := "SecretsWorth", name := "nextPoints", desc := "(I)Z" } : Jvm.MethodName)) ∈ lw_all := lw_g (lw_at lw_m4 3 rfl) rfl
theorem q855 : (Jvm.Cond.code ({ cls := "SecretsWorth", name := "nextPoints", desc := "(I)Z" } : Jvm.MethodName) prog_1_method_40_code (4 : Nat) (Option.some Jvm.ClassFile.FieldType.boolean)) ∈ lw_all := lw_g (lw_at lw_m4 4 rfl) rfl
theorem q856 : (Jvm.Cond.methodLink "SecretsWorthLaw" (76 : Nat) ({ cls := "SecretsWorth", name := "best", desc := "(II)I" } : Jvm.MethodName)) ∈ lw_all := lw_g (lw_at lw_m4 5 rfl) rfl
theorem q857 : (Jvm.Cond.instanceMethod ({ cls := "SecretsWorth", name := "best", desc := "(II)I" } : Jvm.MethodName)) ∈ lw_all := lw_g (lw_at lw_m4 6 rfl) rfl
theorem q858 : (Jvm.Cond.selects "SecretsWorth" ({ cls := "SecretsWorth", name := "best", desc := "(II)I" } : Jvm.MethodName) ({ cls := "SecretsWorth", name := "best", desc := "(II)I" } : Jvm.MethodName)) ∈ lw_all := lw_g (lw_at lw_m4 7 rfl) rfl
theorem q859 : (Jvm.Cond.codeWith ({ cls := "SecretsWorth", name := "best", desc := "(II)I" } : Jvm.MethodName) prog_1_method_55_code (4 : Nat) (Option.some Jvm.ClassFile.FieldType.int) [((0 : Nat), (55 : Nat), (56 : Nat), (377 : Nat)), ((0 : Nat), (55 : Nat), (62 : Nat), (1 : Nat))]) ∈ lw_all := lw_g (lw_at lw_m4 8 rfl) rfl
theorem q860 : (Jvm.Cond.methodLink "SecretsWorth" (386 : Nat) ({ cls := "SecretsWorth", name := "isBig", desc := "()I" } : Jvm.MethodName)) ∈ lw_all := lw_g (lw_at lw_m4 9 rfl) rfl
theorem q861 : (Jvm.Cond.privateMethod ({ cls := "SecretsWorth", name := "isBig", desc := "()I" } : Jvm.MethodName)) ∈ lw_tbl := lw_at lw_m4 10 rfl
theorem q862 : (Jvm.Cond.instanceMethod ({ cls := "SecretsWorth", name := "isBig", desc := "()I" } : Jvm.MethodName)) ∈ lw_all := lw_g (lw_at lw_m4 11 rfl) rfl
theorem q863 : (Jvm.Cond.code ({ cls := "SecretsWorth", name := "isBig", desc := "()I" } : Jvm.MethodName) prog_1_method_6_code (1 : Nat) (Option.some Jvm.ClassFile.FieldType.int)) ∈ lw_all := lw_g (lw_at lw_m4 12 rfl) rfl
theorem q864 : (Jvm.Cond.methodLink "SecretsWorthLaw" (80 : Nat) ({ cls := "SecretsWorth", name := "weight", desc := "(III)J" } : Jvm.MethodName)) ∈ lw_all := lw_g (lw_at lw_m4 13 rfl) rfl
theorem q865 : (Jvm.Cond.instanceMethod ({ cls := "SecretsWorth", name := "weight", desc := "(III)J" } : Jvm.MethodName)) ∈ lw_all := lw_g (lw_at lw_m4 14 rfl) rfl
theorem q866 : (Jvm.Cond.selects "SecretsWorth" ({ cls := "SecretsWorth", name := "weight", desc := "(III)J" } : Jvm.MethodName) ({ cls := "SecretsWorth", name := "weight", desc := "(III)J" } : Jvm.MethodName)) ∈ lw_all := lw_g (lw_at lw_m4 15 rfl) rfl
theorem q867 : (Jvm.Cond.codeWith ({ cls := "SecretsWorth", name := "weight", desc := "(III)J" } : Jvm.MethodName) prog_1_method_56_code (5 : Nat) (Option.some Jvm.ClassFile.FieldType.long) [((0 : Nat), (67 : Nat), (68 : Nat), (377 : Nat)), ((0 : Nat), (67 : Nat), (75 : Nat), (1 : Nat))]) ∈ lw_all := lw_g (lw_at lw_m4 16 rfl) rfl
theorem q868 : (Jvm.Cond.methodLink "SecretsWorthLaw" (85 : Nat) ({ cls := "SecretsWorth", name := "points", desc := "(I)I" } : Jvm.MethodName)) ∈ lw_all := lw_g (lw_at lw_m4 17 rfl) rfl
theorem q869 : (Jvm.Cond.instanceMethod ({ cls := "SecretsWorth", name := "points", desc := "(I)I" } : Jvm.MethodName)) ∈ lw_all := lw_g (lw_at lw_m4 18 rfl) rfl
theorem q870 : (Jvm.Cond.selects "SecretsWorth" ({ cls := "SecretsWorth", name := "points", desc := "(I)I" } : Jvm.MethodName) ({ cls := "SecretsWorth", name := "points", desc := "(I)I" } : Jvm.MethodName)) ∈ lw_all := lw_g (lw_at lw_m4 19 rfl) rfl
theorem q871 : (Jvm.Cond.codeWith ({ cls := "SecretsWorth", name := "points", desc := "(I)I" } : Jvm.MethodName) prog_1_method_58_code (3 : Nat) (Option.some Jvm.ClassFile.FieldType.int) [((0 : Nat), (23 : Nat), (74 : Nat), (377 : Nat)), ((24 : Nat), (73 : Nat), (74 : Nat), (377 : Nat)), ((0 : Nat), (23 : Nat), (80 : Nat), (1 : Nat)), ((24 : Nat), (73 : Nat), (80 : Nat), (1 : Nat))]) ∈ lw_all := lw_g (lw_at lw_m4 20 rfl) rfl
theorem q872 : (Jvm.Cond.methodLink "SecretsWorth" (389 : Nat) ({ cls := "SecretsWorth", name := "pointsBy", desc := "(Z)I" } : Jvm.MethodName)) ∈ lw_all := lw_g (lw_at lw_m4 21 rfl) rfl
theorem q873 : (Jvm.Cond.privateMethod ({ cls := "SecretsWorth", name := "pointsBy", desc := "(Z)I" } : Jvm.MethodName)) ∈ lw_tbl := lw_at lw_m4 22 rfl
theorem q874 : (Jvm.Cond.instanceMethod ({ cls := "SecretsWorth", name := "pointsBy", desc := "(Z)I" } : Jvm.MethodName)) ∈ lw_all := lw_g (lw_at lw_m4 23 rfl) rfl
theorem q875 : (Jvm.Cond.code ({ cls := "SecretsWorth", name := "pointsBy", desc := "(Z)I" } : Jvm.MethodName) prog_1_method_57_code (6 : Nat) (Option.some Jvm.ClassFile.FieldType.int)) ∈ lw_all := lw_g (lw_at lw_m4 24 rfl) rfl
theorem q876 : (Jvm.Cond.methodLink "SecretsWorthLaw" (89 : Nat) ({ cls := "SecretsWorth", name := "price", desc := "(III)J" } : Jvm.MethodName)) ∈ lw_all := lw_g (lw_at lw_m4 25 rfl) rfl
theorem q877 : (Jvm.Cond.instanceMethod ({ cls := "SecretsWorth", name := "price", desc := "(III)J" } : Jvm.MethodName)) ∈ lw_all := lw_g (lw_at lw_m4 26 rfl) rfl
theorem q878 : (Jvm.Cond.selects "SecretsWorth" ({ cls := "SecretsWorth", name := "price", desc := "(III)J" } : Jvm.MethodName) ({ cls := "SecretsWorth", name := "price", desc := "(III)J" } : Jvm.MethodName)) ∈ lw_all := lw_g (lw_at lw_m4 27 rfl) rfl
theorem q879 : (Jvm.Cond.codeWith ({ cls := "SecretsWorth", name := "price", desc := "(III)J" } : Jvm.MethodName) prog_1_method_59_code (5 : Nat) (Option.some Jvm.ClassFile.FieldType.long) [((0 : Nat), (47 : Nat), (48 : Nat), (377 : Nat)), ((0 : Nat), (47 : Nat), (55 : Nat), (1 : Nat))]) ∈ lw_all := lw_g (lw_at lw_m4 28 rfl) rfl
theorem q880 : (Jvm.Cond.methodLink "SecretsWorth" (393 : Nat) ({ cls := "SecretsWorth", name := "priceOf", desc := "(II)LSecretsWorth$Ratio;" } : Jvm.MethodName)) ∈ lw_all := lw_g (lw_at lw_m4 29 rfl) rfl
theorem q881 : (Jvm.Cond.privateMethod ({ cls := "SecretsWorth", name := "priceOf", desc := "(II)LSecretsWorth$Ratio;" } : Jvm.MethodName)) ∈ lw_tbl := lw_at lw_m4 30 rfl
theorem q882 : (Jvm.Cond.instanceMethod ({ cls := "SecretsWorth", name := "priceOf", desc := "(II)LSecretsWorth$Ratio;" } : Jvm.MethodName)) ∈ lw_all := lw_g (lw_at lw_m4 31 rfl) rfl
theorem q883 : (Jvm.Cond.code ({ cls := "SecretsWorth", name := "priceOf", desc := "(II)LSecretsWorth$Ratio;" } : Jvm.MethodName) prog_1_method_47_code (5 : Nat) (Option.some (Jvm.ClassFile.FieldType.object "SecretsWorth$Ratio"))) ∈ lw_all := lw_g (lw_at lw_m4 32 rfl) rfl
theorem q884 : (Jvm.Cond.methodLink "SecretsWorth" (346 : Nat) ({ cls := "SecretsWorth", name := "isFlat", desc := "()Z" } : Jvm.MethodName)) ∈ lw_all := lw_g (lw_at lw_m4 33 rfl) rfl
theorem q885 : (Jvm.Cond.privateMethod ({ cls := "SecretsWorth", name := "isFlat", desc := "()Z" } : Jvm.MethodName)) ∈ lw_tbl := lw_at lw_m4 34 rfl
theorem q886 : (Jvm.Cond.instanceMethod ({ cls := "SecretsWorth", name := "isFlat", desc := "()Z" } : Jvm.MethodName)) ∈ lw_all := lw_g (lw_at lw_m4 35 rfl) rfl
theorem q887 : (Jvm.Cond.code ({ cls := "SecretsWorth", name := "isFlat", desc := "()Z" } : Jvm.MethodName) prog_1_method_46_code (1 : Nat) (Option.some Jvm.ClassFile.FieldType.boolean)) ∈ lw_all := lw_g (lw_at lw_m4 36 rfl) rfl
theorem q888 : (Jvm.Cond.methodLink "SecretsWorth" (349 : Nat) ({ cls := "SecretsWorth", name := "holdsWithin", desc := "(I)Z" } : Jvm.MethodName)) ∈ lw_all := lw_g (lw_at lw_m4 37 rfl) rfl
theorem q889 : (Jvm.Cond.privateMethod ({ cls := "SecretsWorth", name := "holdsWithin", desc := "(I)Z" } : Jvm.MethodName)) ∈ lw_tbl := lw_at lw_m4 38 rfl
theorem q890 : (Jvm.Cond.instanceMethod ({ cls := "SecretsWorth", name := "holdsWithin", desc := "(I)Z" } : Jvm.MethodName)) ∈ lw_all := lw_g (lw_at lw_m4 39 rfl) rfl
theorem q891 : (Jvm.Cond.code ({ cls := "SecretsWorth", name := "holdsWithin", desc := "(I)Z" } : Jvm.MethodName) prog_1_method_45_code (3 : Nat) (Option.some Jvm.ClassFile.FieldType.boolean)) ∈ lw_all := lw_g (lw_at lw_m4 40 rfl) rfl
theorem q892 : (Jvm.Cond.methodLink "SecretsWorth" (343 : Nat) ({ cls := "SecretsWorth$Ratio", name := "isBelow", desc := "()Z" } : Jvm.MethodName)) ∈ lw_all := lw_g (lw_at lw_m4 41 rfl) rfl
theorem q893 : (Jvm.Cond.instanceMethod ({ cls := "SecretsWorth$Ratio", name := "isBelow", desc := "()Z" } : Jvm.MethodName)) ∈ lw_all := lw_g (lw_at lw_m4 42 rfl) rfl
theorem q894 : (Jvm.Cond.selects "SecretsWorth$Ratio" ({ cls := "SecretsWorth$Ratio", name := "isBelow", desc := "()Z" } : Jvm.MethodName) ({ cls := "SecretsWorth$Ratio", name := "isBelow", desc := "()Z" } : Jvm.MethodName)) ∈ lw_all := lw_g (lw_at lw_m4 43 rfl) rfl
theorem q895 : (Jvm.Cond.code ({ cls := "SecretsWorth$Ratio", name := "isBelow", desc := "()Z" } : Jvm.MethodName) prog_5_method_10_code (1 : Nat) (Option.some Jvm.ClassFile.FieldType.boolean)) ∈ lw_all := lw_g (lw_at lw_m4 44 rfl) rfl
theorem q896 : (Jvm.Cond.methodLink "SecretsWorth" (352 : Nat) ({ cls := "SecretsWorth", name := "covers", desc := "()Z" } : Jvm.MethodName)) ∈ lw_all := lw_g (lw_at lw_m4 45 rfl) rfl
theorem q897 : (Jvm.Cond.privateMethod ({ cls := "SecretsWorth", name := "covers", desc := "()Z" } : Jvm.MethodName)) ∈ lw_tbl := lw_at lw_m4 46 rfl
theorem q898 : (Jvm.Cond.instanceMethod ({ cls := "SecretsWorth", name := "covers", desc := "()Z" } : Jvm.MethodName)) ∈ lw_all := lw_g (lw_at lw_m4 47 rfl) rfl
theorem q899 : (Jvm.Cond.code ({ cls := "SecretsWorth", name := "covers", desc := "()Z" } : Jvm.MethodName) prog_1_method_44_code (3 : Nat) (Option.some Jvm.ClassFile.FieldType.boolean)) ∈ lw_all := lw_g (lw_at lw_m4 48 rfl) rfl
theorem q900 : (Jvm.Cond.methodLink "SecretsWorth" (355 : Nat) ({ cls := "SecretsWorth$House", name := "vertex", desc := "(I)I" } : Jvm.MethodName)) ∈ lw_all := lw_g (lw_at lw_m4 49 rfl) rfl
theorem q901 : (Jvm.Cond.instanceMethod ({ cls := "SecretsWorth$House", name := "vertex", desc := "(I)I" } : Jvm.MethodName)) ∈ lw_all := lw_g (lw_at lw_m4 50 rfl) rfl
theorem q902 : (Jvm.Cond.selects "SecretsWorth$House" ({ cls := "SecretsWorth$House", name := "vertex", desc := "(I)I" } : Jvm.MethodName) ({ cls := "SecretsWorth$House", name := "vertex", desc := "(I)I" } : Jvm.MethodName)) ∈ lw_all := lw_g (lw_at lw_m4 51 rfl) rfl
theorem q903 : (Jvm.Cond.code ({ cls := "SecretsWorth$House", name := "vertex", desc := "(I)I" } : Jvm.MethodName) prog_3_method_10_code (3 : Nat) (Option.some Jvm.ClassFile.FieldType.int)) ∈ lw_all := lw_g (lw_at lw_m4 52 rfl) rfl
theorem q904 : (Jvm.Cond.methodLink "SecretsWorthLaw" (93 : Nat) ({ cls := "SecretsWorth", name := "once", desc := "(II)J" } : Jvm.MethodName)) ∈ lw_all := lw_g (lw_at lw_m4 53 rfl) rfl
theorem q905 : (Jvm.Cond.instanceMethod ({ cls := "SecretsWorth", name := "once", desc := "(II)J" } : Jvm.MethodName)) ∈ lw_all := lw_g (lw_at lw_m4 54 rfl) rfl
theorem q906 : (Jvm.Cond.selects "SecretsWorth" ({ cls := "SecretsWorth", name := "once", desc := "(II)J" } : Jvm.MethodName) ({ cls := "SecretsWorth", name := "once", desc := "(II)J" } : Jvm.MethodName)) ∈ lw_all := lw_g (lw_at lw_m4 55 rfl) rfl
theorem q907 : (Jvm.Cond.codeWith ({ cls := "SecretsWorth", name := "once", desc := "(II)J" } : Jvm.MethodName) prog_1_method_61_code (4 : Nat) (Option.some Jvm.ClassFile.FieldType.long) [((0 : Nat), (35 : Nat), (36 : Nat), (1 : Nat))]) ∈ lw_all := lw_g (lw_at lw_m4 56 rfl) rfl
theorem q908 : (Jvm.Cond.methodLink "SecretsWorth" (400 : Nat) ({ cls := "SecretsWorth", name := "onceAt", desc := "(I)LSecretsWorth$Ratio;" } : Jvm.MethodName)) ∈ lw_all := lw_g (lw_at lw_m4 57 rfl) rfl
theorem q909 : (Jvm.Cond.privateMethod ({ cls := "SecretsWorth", name := "onceAt", desc := "(I)LSecretsWorth$Ratio;" } : Jvm.MethodName)) ∈ lw_tbl := lw_at lw_m4 58 rfl
theorem q910 : (Jvm.Cond.instanceMethod ({ cls := "SecretsWorth", name := "onceAt", desc := "(I)LSecretsWorth$Ratio;" } : Jvm.MethodName)) ∈ lw_all := lw_g (lw_at lw_m4 59 rfl) rfl
theorem q911 : (Jvm.Cond.code ({ cls := "SecretsWorth", name := "onceAt", desc := "(I)LSecretsWorth$Ratio;" } : Jvm.MethodName) prog_1_method_60_code (3 : Nat) (Option.some (Jvm.ClassFile.FieldType.object "SecretsWorth$Ratio"))) ∈ lw_all := lw_g (lw_at lw_m4 60 rfl) rfl
theorem q912 : (Jvm.Cond.methodLink "SecretsWorth" (397 : Nat) ({ cls := "SecretsWorth", name := "laysChoices", desc := "(I)V" } : Jvm.MethodName)) ∈ lw_all := lw_g (lw_at lw_m4 61 rfl) rfl
theorem q913 : (Jvm.Cond.privateMethod ({ cls := "SecretsWorth", name := "laysChoices", desc := "(I)V" } : Jvm.MethodName)) ∈ lw_tbl := lw_at lw_m4 62 rfl
theorem q914 : (Jvm.Cond.instanceMethod ({ cls := "SecretsWorth", name := "laysChoices", desc := "(I)V" } : Jvm.MethodName)) ∈ lw_all := lw_g (lw_at lw_m4 63 rfl) rfl
theorem q915 : (Jvm.Cond.code ({ cls := "SecretsWorth", name := "laysChoices", desc := "(I)V" } : Jvm.MethodName) prog_1_method_30_code (8 : Nat) (Option.none : Option Jvm.ClassFile.FieldType)) ∈ lw_all := lw_g (lw_at lw_m4 64 rfl) rfl
theorem q916 : (Jvm.Cond.methodLink "SecretsWorthLaw" (97 : Nat) ({ cls := "SecretsWorth", name := "gap", desc := "(II)J" } : Jvm.MethodName)) ∈ lw_all := lw_g (lw_at lw_m4 65 rfl) rfl
theorem q917 : (Jvm.Cond.instanceMethod ({ cls := "SecretsWorth", name := "gap", desc := "(II)J" } : Jvm.MethodName)) ∈ lw_all := lw_g (lw_at lw_m4 66 rfl) rfl
theorem q918 : (Jvm.Cond.selects "SecretsWorth" ({ cls := "SecretsWorth", name := "gap", desc := "(II)J" } : Jvm.MethodName) ({ cls := "SecretsWorth", name := "gap", desc := "(II)J" } : Jvm.MethodName)) ∈ lw_all := lw_g (lw_at lw_m4 67 rfl) rfl
theorem q919 : (Jvm.Cond.codeWith ({ cls := "SecretsWorth", name := "gap", desc := "(II)J" } : Jvm.MethodName) prog_1_method_62_code (4 : Nat) (Option.some Jvm.ClassFile.FieldType.long) [((0 : Nat), (64 : Nat), (65 : Nat), (377 : Nat)), ((0 : Nat), (64 : Nat), (71 : Nat), (1 : Nat))]) ∈ lw_all := lw_g (lw_at lw_m4 68 rfl) rfl
theorem q920 : (Jvm.Cond.methodLink "SecretsWorthLaw" (101 : Nat) ({ cls := "SecretsWorth", name := "posterior", desc := "(III)J" } : Jvm.MethodName)) ∈ lw_all := lw_g (lw_at lw_m4 69 rfl) rfl
theorem q921 : (Jvm.Cond.instanceMethod ({ cls := "SecretsWorth", name := "posterior", desc := "(III)J" } : Jvm.MethodName)) ∈ lw_all := lw_g (lw_at lw_m4 70 rfl) rfl
theorem q922 : (Jvm.Cond.selects "SecretsWorth" ({ cls := "SecretsWorth", name := "posterior", desc := "(III)J" } : Jvm.MethodName) ({ cls := "SecretsWorth", name := "posterior", desc := "(III)J" } : Jvm.MethodName)) ∈ lw_all := lw_g (lw_at lw_m4 71 rfl) rfl
theorem q923 : (Jvm.Cond.codeWith ({ cls := "SecretsWorth", name := "posterior", desc := "(III)J" } : Jvm.MethodName) prog_1_method_64_code (11 : Nat) (Option.some Jvm.ClassFile.FieldType.long) [((0 : Nat), (169 : Nat), (170 : Nat), (1 : Nat))]) ∈ lw_all := lw_g (lw_at lw_m4 72 rfl) rfl
theorem q924 : (Jvm.Cond.constantLong "SecretsWorth" (403 : Nat) (999 : Int64)) ∈ lw_all := lw_g (lw_at lw_m4 73 rfl) rfl
theorem q925 : (Jvm.Cond.methodLink "SecretsWorth" (405 : Nat) ({ cls := "SecretsWorth", name := "shareOf", desc := "(JJ)LSecretsWorth$Ratio;" } : Jvm.MethodName)) ∈ lw_all := lw_g (lw_at lw_m4 74 rfl) rfl
theorem q926 : (Jvm.Cond.privateMethod ({ cls := "SecretsWorth", name := "shareOf", desc := "(JJ)LSecretsWorth$Ratio;" } : Jvm.MethodName)) ∈ lw_tbl := lw_at lw_m4 75 rfl
theorem q927 : (Jvm.Cond.instanceMethod ({ cls := "SecretsWorth", name := "shareOf", desc := "(JJ)LSecretsWorth$Ratio;" } : Jvm.MethodName)) ∈ lw_all := lw_g (lw_at lw_m4 76 rfl) rfl
theorem q928 : (Jvm.Cond.codeWith ({ cls := "SecretsWorth", name := "shareOf", desc := "(JJ)LSecretsWorth$Ratio;" } : Jvm.MethodName) prog_1_method_63_code (7 : Nat) (Option.some (Jvm.ClassFile.FieldType.object "SecretsWorth$Ratio")) [((0 : Nat), (14 : Nat), (15 : Nat), (377 : Nat))]) ∈ lw_all := lw_g (lw_at lw_m4 77 rfl) rfl
theorem q929 : (Jvm.Cond.methodLink "SecretsWorthLaw" (105 : Nat) ({ cls := "SecretsWorth", name := "feed", desc := "(I)I" } : Jvm.MethodName)) ∈ lw_all := lw_g (lw_at lw_m4 78 rfl) rfl
theorem q930 : (Jvm.Cond.instanceMethod ({ cls := "SecretsWorth", name := "feed", desc := "(I)I" } : Jvm.MethodName)) ∈ lw_all := lw_g (lw_at lw_m4 79 rfl) rfl
theorem q931 : (Jvm.Cond.selects "SecretsWorth" ({ cls := "SecretsWorth", name := "feed", desc := "(I)I" } : Jvm.MethodName) ({ cls := "SecretsWorth", name := "feed", desc := "(I)I" } : Jvm.MethodName)) ∈ lw_all := lw_g (lw_at lw_m4 80 rfl) rfl
theorem q932 : (Jvm.Cond.codeWith ({ cls := "SecretsWorth", name := "feed", desc := "(I)I" } : Jvm.MethodName) prog_1_method_65_code (3 : Nat) (Option.some Jvm.ClassFile.FieldType.int) [((0 : Nat), (55 : Nat), (56 : Nat), (1 : Nat))]) ∈ lw_all := lw_g (lw_at lw_m4 81 rfl) rfl
theorem q933 : (Jvm.Cond.constantLong "SecretsWorth" (408 : Nat) (255 : Int64)) ∈ lw_all := lw_g (lw_at lw_m4 82 rfl) rfl
theorem q934 : (Jvm.Cond.methodLink "SecretsWorthLaw" (109 : Nat) ({ cls := "SecretsWorth", name := "read", desc := "()I" } : Jvm.MethodName)) ∈ lw_all := lw_g (lw_at lw_m4 83 rfl) rfl
theorem q935 : (Jvm.Cond.instanceMethod ({ cls := "SecretsWorth", name := "read", desc := "()I" } : Jvm.MethodName)) ∈ lw_all := lw_g (lw_at lw_m4 84 rfl) rfl
theorem q936 : (Jvm.Cond.selects "SecretsWorth" ({ cls := "SecretsWorth", name := "read", desc := "()I" } : Jvm.MethodName) ({ cls := "SecretsWorth", name := "read", desc := "()I" } : Jvm.MethodName)) ∈ lw_all := lw_g (lw_at lw_m4 85 rfl) rfl
theorem q937 : (Jvm.Cond.codeWith ({ cls := "SecretsWorth", name := "read", desc := "()I" } : Jvm.MethodName) prog_1_method_79_code (2 : Nat) (Option.some Jvm.ClassFile.FieldType.int) [((26 : Nat), (71 : Nat), (72 : Nat), (449 : Nat))]) ∈ lw_all := lw_g (lw_at lw_m4 86 rfl) rfl
theorem q938 : (Jvm.Cond.classLink "SecretsWorth" (449 : Nat) "SecretsWorth$Fault") ∈ lw_all := lw_g (lw_at lw_m4 87 rfl) rfl
theorem q939 : (Jvm.Cond.methodLink "SecretsWorth" (541 : Nat) ({ cls := "SecretsWorth$House", name := "takes", desc := "(LSecretsWorth$House;)V" } : Jvm.MethodName)) ∈ lw_all := lw_g (lw_at lw_m4 88 rfl) rfl
theorem q940 : (Jvm.Cond.instanceMethod ({ cls := "SecretsWorth$House", name := "takes", desc := "(LSecretsWorth$House;)V" } : Jvm.MethodName)) ∈ lw_all := lw_g (lw_at lw_m4 89 rfl) rfl
theorem q941 : (Jvm.Cond.selects "SecretsWorth$House" ({ cls := "SecretsWorth$House", name := "takes", desc := "(LSecretsWorth$House;)V" } : Jvm.MethodName) ({ cls := "SecretsWorth$House", name := "takes", desc := "(LSecretsWorth$House;)V" } : Jvm.MethodName)) ∈ lw_all := lw_g (lw_at lw_m4 90 rfl) rfl
theorem q942 : (Jvm.Cond.code ({ cls := "SecretsWorth$House", name := "takes", desc := "(LSecretsWorth$House;)V" } : Jvm.MethodName) prog_3_method_12_code (4 : Nat) (Option.none : Option Jvm.ClassFile.FieldType)) ∈ lw_all := lw_g (lw_at lw_m4 91 rfl) rfl
theorem q943 : (Jvm.Cond.methodLink "SecretsWorth$House" (59 : Nat) ({ cls := "java/lang/System", name := "arraycopy", desc := "(Ljava/lang/Object;ILjava/lang/Object;II)V" } : Jvm.MethodName)) ∈ lw_all := lw_g (lw_at lw_m4 92 rfl) rfl
theorem q944 : (Jvm.Cond.static ({ cls := "java/lang/System", name := "arraycopy", desc := "(Ljava/lang/Object;ILjava/lang/Object;II)V" } : Jvm.MethodName)) ∈ lw_all := lw_g (lw_at lw_m4 93 rfl) rfl
theorem q945 : (Jvm.Cond.native ({ cls := "java/lang/System", name := "arraycopy", desc := "(Ljava/lang/Object;ILjava/lang/Object;II)V" } : Jvm.MethodName)) ∈ lw_all := lw_g (lw_at lw_m4 94 rfl) rfl
theorem q946 : (Jvm.Cond.methodLink "SecretsWorth" (545 : Nat) ({ cls := "SecretsWorth", name := "statements", desc := "()I" } : Jvm.MethodName)) ∈ lw_all := lw_g (lw_at lw_m4 95 rfl) rfl
theorem q947 : (Jvm.Cond.privateMethod ({ cls := "SecretsWorth", name := "statements", desc := "()I" } : Jvm.MethodName)) ∈ lw_tbl := lw_at lw_m4 96 rfl
theorem q948 : (Jvm.Cond.instanceMethod ({ cls := "SecretsWorth", name := "statements", desc := "()I" } : Jvm.MethodName)) ∈ lw_all := lw_g (lw_at lw_m4 97 rfl) rfl
theorem q949 : (Jvm.Cond.code ({ cls := "SecretsWorth", name := "statements", desc := "()I" } : Jvm.MethodName) prog_1_method_78_code (2 : Nat) (Option.some Jvm.ClassFile.FieldType.int)) ∈ lw_all := lw_g (lw_at lw_m4 98 rfl) rfl
theorem q950 : (Jvm.Cond.methodLink "SecretsWorth" (452 : Nat) ({ cls := "SecretsWorth", name := "next", desc := "()V" } : Jvm.MethodName)) ∈ lw_all := lw_g (lw_at lw_m4 99 rfl) rfl
theorem q951 : (Jvm.Cond.privateMethod ({ cls := "SecretsWorth", name := "next", desc := "()V" } : Jvm.MethodName)) ∈ lw_tbl := lw_at lw_m4 100 rfl
theorem q952 : (Jvm.Cond.instanceMethod ({ cls := "SecretsWorth", name := "next", desc := "()V" } : Jvm.MethodName)) ∈ lw_all := lw_g (lw_at lw_m4 101 rfl) rfl
theorem q953 : (Jvm.Cond.code ({ cls := "SecretsWorth", name := "next", desc := "()V" } : Jvm.MethodName) prog_1_method_68_code (2 : Nat) (Option.none : Option Jvm.ClassFile.FieldType)) ∈ lw_all := lw_g (lw_at lw_m4 102 rfl) rfl
theorem q954 : (Jvm.Cond.methodLink "SecretsWorth" (416 : Nat) ({ cls := "SecretsWorth", name := "here", desc := "()I" } : Jvm.MethodName)) ∈ lw_all := lw_g (lw_at lw_m4 103 rfl) rfl
theorem q955 : (Jvm.Cond.privateMethod ({ cls := "SecretsWorth", name := "here", desc := "()I" } : Jvm.MethodName)) ∈ lw_tbl := lw_at lw_m4 104 rfl
theorem q956 : (Jvm.Cond.instanceMethod ({ cls := "SecretsWorth", name := "here", desc := "()I" } : Jvm.MethodName)) ∈ lw_all := lw_g (lw_at lw_m4 105 rfl) rfl
theorem q957 : (Jvm.Cond.code ({ cls := "SecretsWorth", name := "here", desc := "()I" } : Jvm.MethodName) prog_1_method_66_code (1 : Nat) (Option.some Jvm.ClassFile.FieldType.int)) ∈ lw_all := lw_g (lw_at lw_m4 106 rfl) rfl
theorem q958 : (Jvm.Cond.methodLink "SecretsWorth" (432 : Nat) ({ cls := "SecretsWorth", name := "isIn", desc := "(II)Z" } : Jvm.MethodName)) ∈ lw_all := lw_g (lw_at lw_m4 107 rfl) rfl
theorem q959 : (Jvm.Cond.privateMethod ({ cls := "SecretsWorth", name := "isIn", desc := "(II)Z" } : Jvm.MethodName)) ∈ lw_tbl := lw_at lw_m4 108 rfl
theorem q960 : (Jvm.Cond.instanceMethod ({ cls := "SecretsWorth", name := "isIn", desc := "(II)Z" } : Jvm.MethodName)) ∈ lw_all := lw_g (lw_at lw_m4 109 rfl) rfl
theorem q961 : (Jvm.Cond.code ({ cls := "SecretsWorth", name := "isIn", desc := "(II)Z" } : Jvm.MethodName) prog_1_method_67_code (3 : Nat) (Option.some Jvm.ClassFile.FieldType.boolean)) ∈ lw_all := lw_g (lw_at lw_m4 110 rfl) rfl
theorem q962 : (Jvm.Cond.classLink "SecretsWorth" (435 : Nat) "java/lang/StringBuilder") ∈ lw_all := lw_g (lw_at lw_m4 111 rfl) rfl
theorem q963 : (Jvm.Cond.instantiable "java/lang/StringBuilder" (4 : Nat)) ∈ lw_all := lw_g (lw_at lw_m4 112 rfl) rfl
theorem q964 : (Jvm.Cond.methodLink "SecretsWorth" (437 : Nat) ({ cls := "java/lang/StringBuilder", name := "<init>", desc := "()V" } : Jvm.MethodName)) ∈ lw_all := lw_g (lw_at lw_m4 113 rfl) rfl
theorem q965 : (Jvm.Cond.instanceMethod ({ cls := "java/lang/StringBuilder", name := "<init>", desc := "()V" } : Jvm.MethodName)) ∈ lw_all := lw_g (lw_at lw_m4 114 rfl) rfl
theorem q966 : (Jvm.Cond.code ({ cls := "java/lang/StringBuilder", name := "<init>", desc := "()V" } : Jvm.MethodName) prog_26_method_1_code (1 : Nat) (Option.none : Option Jvm.ClassFile.FieldType)) ∈ lw_all := lw_g (lw_at lw_m4 115 rfl) rfl
theorem q967 : (Jvm.Cond.methodLink "java/lang/StringBuilder" (1 : Nat) ({ cls := "java/lang/AbstractStringBuilder", name := "<init>", desc := "(I)V" } : Jvm.MethodName)) ∈ lw_all := lw_g (lw_at lw_m4 116 rfl) rfl
theorem q968 : (Jvm.Cond.instanceMethod ({ cls := "java/lang/AbstractStringBuilder", name := "<init>", desc := "(I)V" } : Jvm.MethodName)) ∈ lw_all := lw_g (lw_at lw_m4 117 rfl) rfl
theorem q969 : (Jvm.Cond.code ({ cls := "java/lang/AbstractStringBuilder", name := "<init>", desc := "(I)V" } : Jvm.MethodName) prog_12_method_2_code (2 : Nat) (Option.none : Option Jvm.ClassFile.FieldType)) ∈ lw_all := lw_g (lw_at lw_m4 118 rfl) rfl
theorem q970 : (Jvm.Cond.methodLink "java/lang/AbstractStringBuilder" (3 : Nat) ({ cls := "java/lang/Object", name := "<init>", desc := "()V" } : Jvm.MethodName)) ∈ lw_all := lw_g (lw_at lw_m4 119 rfl) rfl
theorem q971 : (Jvm.Cond.fieldLink "java/lang/AbstractStringBuilder" (18 : Nat) "java/lang/String" "COMPACT_STRINGS" "Z") ∈ lw_all := lw_g (lw_at lw_m4 120 rfl) rfl
theorem q972 : (Jvm.Cond.laysStatic "java/lang/String" "COMPACT_STRINGS" "Z") ∈ lw_tbl := lw_at lw_m4 121 rfl
theorem q973 : (Jvm.Cond.methodLink "java/lang/AbstractStringBuilder" (26 : Nat) ({ cls := "java/lang/StringUTF16", name := "newBytesFor", desc := "(I)[B" } : Jvm.MethodName)) ∈ lw_all := lw_g (lw_at lw_m4 122 rfl) rfl
theorem q974 : (Jvm.Cond.static ({ cls := "java/lang/StringUTF16", name := "newBytesFor", desc := "(I)[B" } : Jvm.MethodName)) ∈ lw_all := lw_g (lw_at lw_m4 123 rfl) rfl
theorem q975 : (Jvm.Cond.code ({ cls := "java/lang/StringUTF16", name := "newBytesFor", desc := "(I)[B" } : Jvm.MethodName) prog_28_method_2_code (1 : Nat) (Option.some (Jvm.ClassFile.FieldType.array Jvm.ClassFile.FieldType.byte))) ∈ lw_all := lw_g (lw_at lw_m4 124 rfl) rfl
theorem q976 : (Jvm.Cond.methodLink "java/lang/StringUTF16" (11 : Nat) ({ cls := "java/lang/StringUTF16", name := "newBytesLength", desc := "(I)I" } : Jvm.MethodName)) ∈ lw_all := lw_g (lw_at lw_m4 125 rfl) rfl
theorem q977 : (Jvm.Cond.static ({ cls := "java/lang/StringUTF16", name := "newBytesLength", desc := "(I)I" } : Jvm.MethodName)) ∈ lw_all := lw_g (lw_at lw_m4 126 rfl) rfl
theorem q978 : (Jvm.Cond.code ({ cls := "java/lang/StringUTF16", name := "newBytesLength", desc := "(I)I" } : Jvm.MethodName) prog_28_method_3_code (1 : Nat) (Option.some Jvm.ClassFile.FieldType.int)) ∈ lw_all := lw_g (lw_at lw_m4 127 rfl) rfl
theorem q979 : (Jvm.Cond.constant "java/lang/StringUTF16" (20 : Nat) (1073741823 : Int32)) ∈ lw_all := lw_g (lw_at lw_m4 128 rfl) rfl
theorem q980 : (Jvm.Cond.fieldLink "java/lang/AbstractStringBuilder" (15 : Nat) "java/lang/AbstractStringBuilder" "value" "[B") ∈ lw_all := lw_g (lw_at lw_m4 129 rfl) rfl
theorem q981 : (Jvm.Cond.fieldLink "java/lang/AbstractStringBuilder" (22 : Nat) "java/lang/AbstractStringBuilder" "coder" "B") ∈ lw_all := lw_g (lw_at lw_m4 130 rfl) rfl
theorem q982 : (Jvm.Cond.fieldLink "java/lang/String" (1048 : Nat) "java/lang/AbstractStringBuilder" "maybeLatin1" "Z") ∈ lw_all := lw_g (lw_at lw_m4 131 rfl) rfl
theorem q983 : (Jvm.Cond.fieldLink "java/lang/AbstractStringBuilder" (79 : Nat) "java/lang/AbstractStringBuilder" "count" "I") ∈ lw_all := lw_g (lw_at lw_m4 132 rfl) rfl
theorem q984 : (Jvm.Cond.lays "java/lang/StringBuilder" "java/lang/AbstractStringBuilder" "value" "[B") ∈ lw_all := lw_g (lw_at lw_m4 133 rfl) rfl
theorem q985 : (Jvm.Cond.soleField "java/lang/AbstractStringBuilder" "value") ∈ lw_all := lw_g (lw_at lw_m4 134 rfl) rfl
theorem q986 : (Jvm.Cond.lays "java/lang/StringBuilder" "java/lang/AbstractStringBuilder" "coder" "B") ∈ lw_all := lw_g (lw_at lw_m4 135 rfl) rfl
theorem q987 : (Jvm.Cond.soleField "java/lang/AbstractStringBuilder" "coder") ∈ lw_all := lw_g (lw_at lw_m4 136 rfl) rfl
theorem q988 : (Jvm.Cond.lays "java/lang/StringBuilder" "java/lang/AbstractStringBuilder" "maybeLatin1" "Z") ∈ lw_all := lw_g (lw_at lw_m4 137 rfl) rfl
theorem q989 : (Jvm.Cond.soleField "java/lang/AbstractStringBuilder" "maybeLatin1") ∈ lw_all := lw_g (lw_at lw_m4 138 rfl) rfl
theorem q990 : (Jvm.Cond.lays "java/lang/StringBuilder" "java/lang/AbstractStringBuilder" "count" "I") ∈ lw_all := lw_g (lw_at lw_m4 139 rfl) rfl
theorem q991 : (Jvm.Cond.soleField "java/lang/AbstractStringBuilder" "count") ∈ lw_all := lw_g (lw_at lw_m4 140 rfl) rfl
theorem q992 : (Jvm.Cond.superclass "java/lang/StringBuilder" "java/lang/AbstractStringBuilder") ∈ lw_all := lw_g (lw_at lw_m4 141 rfl) rfl
theorem q993 : (Jvm.Cond.methodLink "SecretsWorth" (438 : Nat) ({ cls := "java/lang/StringBuilder", name := "append", desc := "(C)Ljava/lang/StringBuilder;" } : Jvm.MethodName)) ∈ lw_all := lw_g (lw_at lw_m4 142 rfl) rfl
theorem q994 : (Jvm.Cond.instanceMethod ({ cls := "java/lang/StringBuilder", name := "append", desc := "(C)Ljava/lang/StringBuilder;" } : Jvm.MethodName)) ∈ lw_all := lw_g (lw_at lw_m4 143 rfl) rfl
theorem q995 : (Jvm.Cond.selects "java/lang/StringBuilder" ({ cls := "java/lang/StringBuilder", name := "append", desc := "(C)Ljava/lang/StringBuilder;" } : Jvm.MethodName) ({ cls := "java/lang/StringBuilder", name := "append", desc := "(C)Ljava/lang/StringBuilder;" } : Jvm.MethodName)) ∈ lw_all := lw_g (lw_at lw_m4 144 rfl) rfl
theorem q996 : (Jvm.Cond.code ({ cls := "java/lang/StringBuilder", name := "append", desc := "(C)Ljava/lang/StringBuilder;" } : Jvm.MethodName) prog_26_method_14_code (2 : Nat) (Option.some (Jvm.ClassFile.FieldType.object "java/lang/StringBuilder"))) ∈ lw_all := lw_g (lw_at lw_m4 145 rfl) rfl
theorem q997 : (Jvm.Cond.methodLink "java/lang/StringBuilder" (50 : Nat) ({ cls := "java/lang/AbstractStringBuilder", name := "append", desc := "(C)Ljava/lang/AbstractStringBuilder;" } : Jvm.MethodName)) ∈ lw_all := lw_g (lw_at lw_m4 146 rfl) rfl
theorem q998 : (Jvm.Cond.instanceMethod ({ cls := "java/lang/AbstractStringBuilder", name := "append", desc := "(C)Ljava/lang/AbstractStringBuilder;" } : Jvm.MethodName)) ∈ lw_all := lw_g (lw_at lw_m4 147 rfl) rfl
theorem q999 : (Jvm.Cond.code ({ cls := "java/lang/AbstractStringBuilder", name := "append", desc := "(C)Ljava/lang/AbstractStringBuilder;" } : Jvm.MethodName) prog_12_method_31_code (2 : Nat) (Option.some (Jvm.ClassFile.FieldType.object "java/lang/AbstractStringBuilder"))) ∈ lw_all := lw_g (lw_at lw_m4 148 rfl) rfl
theorem q1000 : (Jvm.Cond.methodLink "java/lang/AbstractStringBuilder" (100 : Nat) ({ cls := "java/lang/AbstractStringBuilder", name := "ensureCapacityInternal", desc := "(I)V" } : Jvm.MethodName)) ∈ lw_all := lw_g (lw_at lw_m4 149 rfl) rfl
theorem q1001 : (Jvm.Cond.privateMethod ({ cls := "java/lang/AbstractStringBuilder", name := "ensureCapacityInternal", desc := "(I)V" } : Jvm.MethodName)) ∈ lw_tbl := lw_at lw_m4 150 rfl
theorem q1002 : (Jvm.Cond.instanceMethod ({ cls := "java/lang/AbstractStringBuilder", name := "ensureCapacityInternal", desc := "(I)V" } : Jvm.MethodName)) ∈ lw_all := lw_g (lw_at lw_m4 151 rfl) rfl
theorem q1003 : (Jvm.Cond.code ({ cls := "java/lang/AbstractStringBuilder", name := "ensureCapacityInternal", desc := "(I)V" } : Jvm.MethodName) prog_12_method_9_code (3 : Nat) (Option.none : Option Jvm.ClassFile.FieldType)) ∈ lw_all := lw_g (lw_at lw_m4 152 rfl) rfl
theorem q1004 : (Jvm.Cond.methodLink "java/lang/AbstractStringBuilder" (104 : Nat) ({ cls := "java/lang/AbstractStringBuilder", name := "newCapacity", desc := "(I)I" } : Jvm.MethodName)) ∈ lw_all := lw_g (lw_at lw_m4 153 rfl) rfl
theorem q1005 : (Jvm.Cond.privateMethod ({ cls := "java/lang/AbstractStringBuilder", name := "newCapacity", desc := "(I)I" } : Jvm.MethodName)) ∈ lw_tbl := lw_at lw_m4 154 rfl
theorem q1006 : (Jvm.Cond.instanceMethod ({ cls := "java/lang/AbstractStringBuilder", name := "newCapacity", desc := "(I)I" } : Jvm.MethodName)) ∈ lw_all := lw_g (lw_at lw_m4 155 rfl) rfl
theorem q1007 : (Jvm.Cond.code ({ cls := "java/lang/AbstractStringBuilder", name := "newCapacity", desc := "(I)I" } : Jvm.MethodName) prog_12_method_10_code (6 : Nat) (Option.some Jvm.ClassFile.FieldType.int)) ∈ lw_all := lw_g (lw_at lw_m4 156 rfl) rfl
theorem q1008 : (Jvm.Cond.methodLink "java/lang/AbstractStringBuilder" (114 : Nat) ({ cls := "jdk/internal/util/ArraysSupport", name := "newLength", desc := "(III)I" } : Jvm.MethodName)) ∈ lw_all := lw_g (lw_at lw_m4 157 rfl) rfl
theorem q1009 : (Jvm.Cond.static ({ cls := "jdk/internal/util/ArraysSupport", name := "newLength", desc := "(III)I" } : Jvm.MethodName)) ∈ lw_all := lw_g (lw_at lw_m4 158 rfl) rfl
theorem q1010 : (Jvm.Cond.code ({ cls := "jdk/internal/util/ArraysSupport", name := "newLength", desc := "(III)I" } : Jvm.MethodName) prog_34_method_27_code (4 : Nat) (Option.some Jvm.ClassFile.FieldType.int)) ∈ lw_all := lw_g (lw_at lw_m4 159 rfl) rfl
theorem q1011 : (Jvm.Cond.methodLink "jdk/internal/util/ArraysSupport" (194 : Nat) ({ cls := "java/lang/Math", name := "max", desc := "(II)I" } : Jvm.MethodName)) ∈ lw_all := lw_g (lw_at lw_m4 160 rfl) rfl
theorem q1012 : (Jvm.Cond.static ({ cls := "java/lang/Math", name := "max", desc := "(II)I" } : Jvm.MethodName)) ∈ lw_all := lw_g (lw_at lw_m4 161 rfl) rfl
theorem q1013 : (Jvm.Cond.code ({ cls := "java/lang/Math", name := "max", desc := "(II)I" } : Jvm.MethodName) prog_21_method_65_code (2 : Nat) (Option.some Jvm.ClassFile.FieldType.int)) ∈ lw_all := lw_g (lw_at lw_m4 162 rfl) rfl
theorem q1014 : (Jvm.Cond.constant "jdk/internal/util/ArraysSupport" (200 : Nat) (2147483639 : Int32)) ∈ lw_all := lw_g (lw_at lw_m4 163 rfl) rfl
theorem q1015 : (Jvm.Cond.methodLink "jdk/internal/util/ArraysSupport" (201 : Nat) ({ cls := "jdk/internal/util/ArraysSupport", name := "hugeLength", desc := "(II)I" } : Jvm.MethodName)) ∈ lw_all := lw_g (lw_at lw_m4 164 rfl) rfl
theorem q1016 : (Jvm.Cond.static ({ cls := "jdk/internal/util/ArraysSupport", name := "hugeLength", desc := "(II)I" } : Jvm.MethodName)) ∈ lw_all := lw_g (lw_at lw_m4 165 rfl) rfl
theorem q1017 : (Jvm.Cond.code ({ cls := "jdk/internal/util/ArraysSupport", name := "hugeLength", desc := "(II)I" } : Jvm.MethodName) prog_34_method_28_code (3 : Nat) (Option.some Jvm.ClassFile.FieldType.int)) ∈ lw_all := lw_g (lw_at lw_m4 166 rfl) rfl
theorem q1018 : (Jvm.Cond.constant "java/lang/AbstractStringBuilder" (39 : Nat) (2147483647 : Int32)) ∈ lw_all := lw_g (lw_at lw_m4 167 rfl) rfl
theorem q1019 : (Jvm.Cond.methodLink "java/lang/AbstractStringBuilder" (108 : Nat) ({ cls := "java/util/Arrays", name := "copyOf", desc := "([BI)[B" } : Jvm.MethodName)) ∈ lw_all := lw_g (lw_at lw_m4 168 rfl) rfl
theorem q1020 : (Jvm.Cond.static ({ cls := "java/util/Arrays", name := "copyOf", desc := "([BI)[B" } : Jvm.MethodName)) ∈ lw_all := lw_g (lw_at lw_m4 169 rfl) rfl
theorem q1021 : (Jvm.Cond.code ({ cls := "java/util/Arrays", name := "copyOf", desc := "([BI)[B" } : Jvm.MethodName) prog_32_method_121_code (3 : Nat) (Option.some (Jvm.ClassFile.FieldType.array Jvm.ClassFile.FieldType.byte))) ∈ lw_all := lw_g (lw_at lw_m4 170 rfl) rfl
theorem q1022 : (Jvm.Cond.methodLink "java/util/Arrays" (310 : Nat) ({ cls := "[B", name := "clone", desc := "()Ljava/lang/Object;" } : Jvm.MethodName)) ∈ lw_all := lw_g (lw_at lw_m4 171 rfl) rfl
theorem q1023 : (Jvm.Cond.sameMethod "[B" "java/lang/Object" "clone" "()Ljava/lang/Object;") ∈ lw_all := lw_g (lw_at lw_m4 172 rfl) rfl
theorem q1024 : (Jvm.Cond.native ({ cls := "java/lang/Object", name := "clone", desc := "()Ljava/lang/Object;" } : Jvm.MethodName)) ∈ lw_all := lw_g (lw_at lw_m4 173 rfl) rfl
theorem q1025 : (Jvm.Cond.instanceMethod ({ cls := "java/lang/Object", name := "clone", desc := "()Ljava/lang/Object;" } : Jvm.MethodName)) ∈ lw_all := lw_g (lw_at lw_m4 174 rfl) rfl
theorem q1026 : (Jvm.Cond.selects "[B" ({ cls := "[B", name := "clone", desc := "()Ljava/lang/Object;" } : Jvm.MethodName) ({ cls := "java/lang/Object", name := "clone", desc := "()Ljava/lang/Object;" } : Jvm.MethodName)) ∈ lw_all := lw_g (lw_at lw_m4 175 rfl) rfl
theorem q1027 : (Jvm.Cond.castable "[B" "java/lang/Cloneable") ∈ lw_tbl := lw_at lw_m4 176 rfl
theorem q1028 : (Jvm.Cond.classLink "java/util/Arrays" (311 : Nat) "[B") ∈ lw_all := lw_g (lw_at lw_m4 177 rfl) rfl
theorem q1029 : (Jvm.Cond.methodLink "java/util/Arrays" (304 : Nat) ({ cls := "java/lang/Math", name := "min", desc := "(II)I" } : Jvm.MethodName)) ∈ lw_all := lw_g (lw_at lw_m4 178 rfl) rfl
theorem q1030 : (Jvm.Cond.static ({ cls := "java/lang/Math", name := "min", desc := "(II)I" } : Jvm.MethodName)) ∈ lw_all := lw_g (lw_at lw_m4 179 rfl) rfl
theorem q1031 : (Jvm.Cond.code ({ cls := "java/lang/Math", name := "min", desc := "(II)I" } : Jvm.MethodName) prog_21_method_69_code (2 : Nat) (Option.some Jvm.ClassFile.FieldType.int)) ∈ lw_all := lw_g (lw_at lw_m4 180 rfl) rfl
theorem q1032 : (Jvm.Cond.methodLink "java/util/Arrays" (150 : Nat) ({ cls := "java/lang/System", name := "arraycopy", desc := "(Ljava/lang/Object;ILjava/lang/Object;II)V" } : Jvm.MethodName)) ∈ lw_all := lw_g (lw_at lw_m4 181 rfl) rfl
theorem q1033 : (Jvm.Cond.methodLink "java/lang/AbstractStringBuilder" (83 : Nat) ({ cls := "java/lang/AbstractStringBuilder", name := "isLatin1", desc := "()Z" } : Jvm.MethodName)) ∈ lw_all := lw_g (lw_at lw_m4 182 rfl) rfl
theorem q1034 : (Jvm.Cond.instanceMethod ({ cls := "java/lang/AbstractStringBuilder", name := "isLatin1", desc := "()Z" } : Jvm.MethodName)) ∈ lw_all := lw_g (lw_at lw_m4 183 rfl) rfl
theorem q1035 : (Jvm.Cond.sameMethod "java/lang/AbstractStringBuilder" "java/lang/AbstractStringBuilder" "isLatin1" "()Z") ∈ lw_all := lw_g (lw_at lw_m4 184 rfl) rfl
theorem q1036 : (Jvm.Cond.selects "java/lang/StringBuilder" ({ cls := "java/lang/AbstractStringBuilder", name := "isLatin1", desc := "()Z" } : Jvm.MethodName) ({ cls := "java/lang/AbstractStringBuilder", name := "isLatin1", desc := "()Z" } : Jvm.MethodName)) ∈ lw_all := lw_g (lw_at lw_m4 185 rfl) rfl
theorem q1037 : (Jvm.Cond.code ({ cls := "java/lang/AbstractStringBuilder", name := "isLatin1", desc := "()Z" } : Jvm.MethodName) prog_12_method_68_code (1 : Nat) (Option.some Jvm.ClassFile.FieldType.boolean)) ∈ lw_all := lw_g (lw_at lw_m4 186 rfl) rfl
theorem q1038 : (Jvm.Cond.methodLink "java/lang/AbstractStringBuilder" (191 : Nat) ({ cls := "java/lang/StringLatin1", name := "canEncode", desc := "(C)Z" } : Jvm.MethodName)) ∈ lw_all := lw_g (lw_at lw_m4 187 rfl) rfl
theorem q1039 : (Jvm.Cond.static ({ cls := "java/lang/StringLatin1", name := "canEncode", desc := "(C)Z" } : Jvm.MethodName)) ∈ lw_all := lw_g (lw_at lw_m4 188 rfl) rfl
theorem q1040 : (Jvm.Cond.code ({ cls := "java/lang/StringLatin1", name := "canEncode", desc := "(C)Z" } : Jvm.MethodName) prog_27_method_3_code (1 : Nat) (Option.some Jvm.ClassFile.FieldType.boolean)) ∈ lw_all := lw_g (lw_at lw_m4 189 rfl) rfl
theorem q1041 : (Jvm.Cond.methodLink "java/lang/AbstractStringBuilder" (195 : Nat) ({ cls := "java/lang/AbstractStringBuilder", name := "inflate", desc := "()V" } : Jvm.MethodName)) ∈ lw_all := lw_g (lw_at lw_m4 190 rfl) rfl
theorem q1042 : (Jvm.Cond.privateMethod ({ cls := "java/lang/AbstractStringBuilder", name := "inflate", desc := "()V" } : Jvm.MethodName)) ∈ lw_tbl := lw_at lw_m4 191 rfl
theorem q1043 : (Jvm.Cond.instanceMethod ({ cls := "java/lang/AbstractStringBuilder", name := "inflate", desc := "()V" } : Jvm.MethodName)) ∈ lw_all := lw_g (lw_at lw_m4 192 rfl) rfl
theorem q1044 : (Jvm.Cond.code ({ cls := "java/lang/AbstractStringBuilder", name := "inflate", desc := "()V" } : Jvm.MethodName) prog_12_method_11_code (2 : Nat) (Option.none : Option Jvm.ClassFile.FieldType)) ∈ lw_all := lw_g (lw_at lw_m4 193 rfl) rfl
theorem q1045 : (Jvm.Cond.methodLink "java/lang/AbstractStringBuilder" (125 : Nat) ({ cls := "java/lang/StringLatin1", name := "inflate", desc := "([BI[BII)V" } : Jvm.MethodName)) ∈ lw_all := lw_g (lw_at lw_m4 194 rfl) rfl
theorem q1046 : (Jvm.Cond.static ({ cls := "java/lang/StringLatin1", name := "inflate", desc := "([BI[BII)V" } : Jvm.MethodName)) ∈ lw_all := lw_g (lw_at lw_m4 195 rfl) rfl
theorem q1047 : (Jvm.Cond.code ({ cls := "java/lang/StringLatin1", name := "inflate", desc := "([BI[BII)V" } : Jvm.MethodName) prog_27_method_50_code (5 : Nat) (Option.none : Option Jvm.ClassFile.FieldType)) ∈ lw_all := lw_g (lw_at lw_m4 196 rfl) rfl
theorem q1048 : (Jvm.Cond.methodLink "java/lang/StringLatin1" (240 : Nat) ({ cls := "java/lang/StringUTF16", name := "inflate", desc := "([BI[BII)V" } : Jvm.MethodName)) ∈ lw_all := lw_g (lw_at lw_m4 197 rfl) rfl
theorem q1049 : (Jvm.Cond.static ({ cls := "java/lang/StringUTF16", name := "inflate", desc := "([BI[BII)V" } : Jvm.MethodName)) ∈ lw_all := lw_g (lw_at lw_m4 198 rfl) rfl
theorem q1050 : (Jvm.Cond.code ({ cls := "java/lang/StringUTF16", name := "inflate", desc := "([BI[BII)V" } : Jvm.MethodName) prog_28_method_86_code (6 : Nat) (Option.none : Option Jvm.ClassFile.FieldType)) ∈ lw_all := lw_g (lw_at lw_m4 199 rfl) rfl
theorem q1051 : (Jvm.Cond.methodLink "java/lang/StringUTF16" (173 : Nat) ({ cls := "java/lang/StringUTF16", name := "checkBoundsOffCount", desc := "(II[B)V" } : Jvm.MethodName)) ∈ lw_all := lw_g (lw_at lw_m4 200 rfl) rfl
theorem q1052 : (Jvm.Cond.static ({ cls := "java/lang/StringUTF16", name := "checkBoundsOffCount", desc := "(II[B)V" } : Jvm.MethodName)) ∈ lw_all := lw_g (lw_at lw_m4 201 rfl) rfl
theorem q1053 : (Jvm.Cond.code ({ cls := "java/lang/StringUTF16", name := "checkBoundsOffCount", desc := "(II[B)V" } : Jvm.MethodName) prog_28_method_94_code (3 : Nat) (Option.none : Option Jvm.ClassFile.FieldType)) ∈ lw_all := lw_g (lw_at lw_m4 202 rfl) rfl
theorem q1054 : (Jvm.Cond.methodLink "java/lang/StringUTF16" (48 : Nat) ({ cls := "java/lang/StringUTF16", name := "length", desc := "([B)I" } : Jvm.MethodName)) ∈ lw_all := lw_g (lw_at lw_m4 203 rfl) rfl
theorem q1055 : (Jvm.Cond.static ({ cls := "java/lang/StringUTF16", name := "length", desc := "([B)I" } : Jvm.MethodName)) ∈ lw_all := lw_g (lw_at lw_m4 204 rfl) rfl
theorem q1056 : (Jvm.Cond.code ({ cls := "java/lang/StringUTF16", name := "length", desc := "([B)I" } : Jvm.MethodName) prog_28_method_6_code (1 : Nat) (Option.some Jvm.ClassFile.FieldType.int)) ∈ lw_all := lw_g (lw_at lw_m4 205 rfl) rfl
theorem q1057 : (Jvm.Cond.methodLink "java/lang/StringUTF16" (419 : Nat) ({ cls := "java/lang/String", name := "checkBoundsOffCount", desc := "(III)I" } : Jvm.MethodName)) ∈ lw_all := lw_g (lw_at lw_m4 206 rfl) rfl
theorem q1058 : (Jvm.Cond.static ({ cls := "java/lang/String", name := "checkBoundsOffCount", desc := "(III)I" } : Jvm.MethodName)) ∈ lw_all := lw_g (lw_at lw_m4 207 rfl) rfl
theorem q1059 : (Jvm.Cond.code ({ cls := "java/lang/String", name := "checkBoundsOffCount", desc := "(III)I" } : Jvm.MethodName) prog_25_method_157_code (3 : Nat) (Option.some Jvm.ClassFile.FieldType.int)) ∈ lw_all := lw_g (lw_at lw_m4 208 rfl) rfl
theorem q1060 : (Jvm.Cond.fieldLink "java/lang/String" (1053 : Nat) "jdk/internal/util/Preconditions" "SIOOBE_FORMATTER" "Ljava/util/function/BiFunction;") ∈ lw_all := lw_g (lw_at lw_m4 209 rfl) rfl
theorem q1061 : (Jvm.Cond.laysStatic "jdk/internal/util/Preconditions" "SIOOBE_FORMATTER" "Ljava/util/function/BiFunction;") ∈ lw_tbl := lw_at lw_m4 210 rfl
theorem q1062 : (Jvm.Cond.methodLink "java/lang/String" (1065 : Nat) ({ cls := "jdk/internal/util/Preconditions", name := "checkFromIndexSize", desc := "(IIILjava/util/function/BiFunction;)I" } : Jvm.MethodName)) ∈ lw_all := lw_g (lw_at lw_m4 211 rfl) rfl
theorem q1063 : (Jvm.Cond.static ({ cls := "jdk/internal/util/Preconditions", name := "checkFromIndexSize", desc := "(IIILjava/util/function/BiFunction;)I" } : Jvm.MethodName)) ∈ lw_all := lw_g (lw_at lw_m4 212 rfl) rfl
theorem q1064 : (Jvm.Cond.code ({ cls := "jdk/internal/util/Preconditions", name := "checkFromIndexSize", desc := "(IIILjava/util/function/BiFunction;)I" } : Jvm.MethodName) prog_35_method_13_code (4 : Nat) (Option.some Jvm.ClassFile.FieldType.int)) ∈ lw_all := lw_g (lw_at lw_m4 213 rfl) rfl
theorem q1065 : (Jvm.Cond.methodLink "java/lang/StringUTF16" (111 : Nat) ({ cls := "java/lang/StringUTF16", name := "putChar", desc := "([BII)V" } : Jvm.MethodName)) ∈ lw_all := lw_g (lw_at lw_m4 214 rfl) rfl
theorem q1066 : (Jvm.Cond.static ({ cls := "java/lang/StringUTF16", name := "putChar", desc := "([BII)V" } : Jvm.MethodName)) ∈ lw_all := lw_g (lw_at lw_m4 215 rfl) rfl
theorem q1067 : (Jvm.Cond.code ({ cls := "java/lang/StringUTF16", name := "putChar", desc := "([BII)V" } : Jvm.MethodName) prog_28_method_4_code (3 : Nat) (Option.none : Option Jvm.ClassFile.FieldType)) ∈ lw_all := lw_g (lw_at lw_m4 216 rfl) rfl
theorem q1068 : (Jvm.Cond.fieldLink "java/lang/StringUTF16" (44 : Nat) "java/lang/StringUTF16" "$assertionsDisabled" "Z") ∈ lw_all := lw_g (lw_at lw_m4 217 rfl) rfl
theorem q1069 : (Jvm.Cond.laysStatic "java/lang/StringUTF16" "$assertionsDisabled" "Z") ∈ lw_tbl := lw_at lw_m4 218 rfl
theorem q1070 : (Jvm.Cond.fieldLink "java/lang/StringUTF16" (59 : Nat) "java/lang/StringUTF16" "HI_BYTE_SHIFT" "I") ∈ lw_all := lw_g (lw_at lw_m4 219 rfl) rfl
theorem q1071 : (Jvm.Cond.laysStatic "java/lang/StringUTF16" "HI_BYTE_SHIFT" "I") ∈ lw_tbl := lw_at lw_m4 220 rfl
theorem q1072 : (Jvm.Cond.fieldLink "java/lang/StringUTF16" (63 : Nat) "java/lang/StringUTF16" "LO_BYTE_SHIFT" "I") ∈ lw_all := lw_g (lw_at lw_m4 221 rfl) rfl
theorem q1073 : (Jvm.Cond.laysStatic "java/lang/StringUTF16" "LO_BYTE_SHIFT" "I") ∈ lw_tbl := lw_at lw_m4 222 rfl
theorem q1074 : (Jvm.Cond.methodLink "java/lang/AbstractStringBuilder" (197 : Nat) ({ cls := "java/lang/StringUTF16", name := "putCharSB", desc := "([BII)V" } : Jvm.MethodName)) ∈ lw_all := lw_g (lw_at lw_m4 223 rfl) rfl
theorem q1075 : (Jvm.Cond.static ({ cls := "java/lang/StringUTF16", name := "putCharSB", desc := "([BII)V" } : Jvm.MethodName)) ∈ lw_all := lw_g (lw_at lw_m4 224 rfl) rfl
theorem q1076 : (Jvm.Cond.code ({ cls := "java/lang/StringUTF16", name := "putCharSB", desc := "([BII)V" } : Jvm.MethodName) prog_28_method_71_code (3 : Nat) (Option.none : Option Jvm.ClassFile.FieldType)) ∈ lw_all := lw_g (lw_at lw_m4 225 rfl) rfl
theorem q1077 : (Jvm.Cond.methodLink "java/lang/StringUTF16" (67 : Nat) ({ cls := "java/lang/StringUTF16", name := "checkIndex", desc := "(I[B)V" } : Jvm.MethodName)) ∈ lw_all := lw_g (lw_at lw_m4 226 rfl) rfl
theorem q1078 : (Jvm.Cond.static ({ cls := "java/lang/StringUTF16", name := "checkIndex", desc := "(I[B)V" } : Jvm.MethodName)) ∈ lw_all := lw_g (lw_at lw_m4 227 rfl) rfl
theorem q1079 : (Jvm.Cond.code ({ cls := "java/lang/StringUTF16", name := "checkIndex", desc := "(I[B)V" } : Jvm.MethodName) prog_28_method_91_code (2 : Nat) (Option.none : Option Jvm.ClassFile.FieldType)) ∈ lw_all := lw_g (lw_at lw_m4 228 rfl) rfl
theorem q1080 : (Jvm.Cond.methodLink "java/lang/StringUTF16" (414 : Nat) ({ cls := "java/lang/String", name := "checkIndex", desc := "(II)V" } : Jvm.MethodName)) ∈ lw_all := lw_g (lw_at lw_m4 229 rfl) rfl
theorem q1081 : (Jvm.Cond.static ({ cls := "java/lang/String", name := "checkIndex", desc := "(II)V" } : Jvm.MethodName)) ∈ lw_all := lw_g (lw_at lw_m4 230 rfl) rfl
theorem q1082 : (Jvm.Cond.code ({ cls := "java/lang/String", name := "checkIndex", desc := "(II)V" } : Jvm.MethodName) prog_25_method_155_code (2 : Nat) (Option.none : Option Jvm.ClassFile.FieldType)) ∈ lw_all := lw_g (lw_at lw_m4 231 rfl) rfl
theorem q1083 : (Jvm.Cond.methodLink "java/lang/String" (1059 : Nat) ({ cls := "jdk/internal/util/Preconditions", name := "checkIndex", desc := "(IILjava/util/function/BiFunction;)I" } : Jvm.MethodName)) ∈ lw_all := lw_g (lw_at lw_m4 232 rfl) rfl
theorem q1084 : (Jvm.Cond.static ({ cls := "jdk/internal/util/Preconditions", name := "checkIndex", desc := "(IILjava/util/function/BiFunction;)I" } : Jvm.MethodName)) ∈ lw_all := lw_g (lw_at lw_m4 233 rfl) rfl
theorem q1085 : (Jvm.Cond.code ({ cls := "jdk/internal/util/Preconditions", name := "checkIndex", desc := "(IILjava/util/function/BiFunction;)I" } : Jvm.MethodName) prog_35_method_11_code (3 : Nat) (Option.some Jvm.ClassFile.FieldType.int)) ∈ lw_all := lw_g (lw_at lw_m4 234 rfl) rfl
theorem q1086 : (Jvm.Cond.methodLink "SecretsWorth" (442 : Nat) ({ cls := "java/lang/StringBuilder", name := "toString", desc := "()Ljava/lang/String;" } : Jvm.MethodName)) ∈ lw_all := lw_g (lw_at lw_m4 235 rfl) rfl
theorem q1087 : (Jvm.Cond.instanceMethod ({ cls := "java/lang/StringBuilder", name := "toString", desc := "()Ljava/lang/String;" } : Jvm.MethodName)) ∈ lw_all := lw_g (lw_at lw_m4 236 rfl) rfl
theorem q1088 : (Jvm.Cond.selects "java/lang/StringBuilder" ({ cls := "java/lang/StringBuilder", name := "toString", desc := "()Ljava/lang/String;" } : Jvm.MethodName) ({ cls := "java/lang/StringBuilder", name := "toString", desc := "()Ljava/lang/String;" } : Jvm.MethodName)) ∈ lw_all := lw_g (lw_at lw_m4 237 rfl) rfl
theorem q1089 : (Jvm.Cond.code ({ cls := "java/lang/StringBuilder", name := "toString", desc := "()Ljava/lang/String;" } : Jvm.MethodName) prog_26_method_42_code (1 : Nat) (Option.some (Jvm.ClassFile.FieldType.object "java/lang/String"))) ∈ lw_all := lw_g (lw_at lw_m4 238 rfl) rfl
theorem q1090 : (Jvm.Cond.classLink "java/lang/StringBuilder" (18 : Nat) "java/lang/String") ∈ lw_all := lw_g (lw_at lw_m4 239 rfl) rfl
theorem q1091 : (Jvm.Cond.methodLink "java/lang/StringBuilder" (137 : Nat) ({ cls := "java/lang/String", name := "<init>", desc := "(Ljava/lang/StringBuilder;)V" } : Jvm.MethodName)) ∈ lw_all := lw_g (lw_at lw_m5 0 rfl) rfl
theorem q1092 : (Jvm.Cond.instanceMethod ({ cls := "java/lang/String", name := "<init>", desc := "(Ljava/lang/StringBuilder;)V" } : Jvm.MethodName)) ∈ lw_all := lw_g (lw_at lw_m5 1 rfl) rfl
theorem q1093 : (Jvm.Cond.code ({ cls := "java/lang/String", name := "<init>", desc := "(Ljava/lang/StringBuilder;)V" } : Jvm.MethodName) prog_25_method_53_code (2 : Nat) (Option.none : Option Jvm.ClassFile.FieldType)) ∈ lw_all := lw_g (lw_at lw_m5 2 rfl) rfl
theorem q1094 : (Jvm.Cond.methodLink "java/lang/String" (489 : Nat) ({ cls := "java/lang/String", name := "<init>", desc := "(Ljava/lang/AbstractStringBuilder;Ljava/lang/Void;)V" } : Jvm.MethodName)) ∈ lw_all := lw_g (lw_at lw_m5 3 rfl) rfl
theorem q1095 : (Jvm.Cond.instanceMethod ({ cls := "java/lang/String", name := "<init>", desc := "(Ljava/lang/AbstractStringBuilder;Ljava/lang/Void;)V" } : Jvm.MethodName)) ∈ lw_all := lw_g (lw_at lw_m5 4 rfl) rfl
theorem q1096 : (Jvm.Cond.code ({ cls := "java/lang/String", name := "<init>", desc := "(Ljava/lang/AbstractStringBuilder;Ljava/lang/Void;)V" } : Jvm.MethodName) prog_25_method_150_code (5 : Nat) (Option.none : Option Jvm.ClassFile.FieldType)) ∈ lw_all := lw_g (lw_at lw_m5 5 rfl) rfl
theorem q1097 : (Jvm.Cond.methodLink "java/lang/String" (1 : Nat) ({ cls := "java/lang/Object", name := "<init>", desc := "()V" } : Jvm.MethodName)) ∈ lw_all := lw_g (lw_at lw_m5 6 rfl) rfl
theorem q1098 : (Jvm.Cond.methodLink "java/lang/String" (552 : Nat) ({ cls := "java/lang/AbstractStringBuilder", name := "getValue", desc := "()[B" } : Jvm.MethodName)) ∈ lw_all := lw_g (lw_at lw_m5 7 rfl) rfl
theorem q1099 : (Jvm.Cond.instanceMethod ({ cls := "java/lang/AbstractStringBuilder", name := "getValue", desc := "()[B" } : Jvm.MethodName)) ∈ lw_all := lw_g (lw_at lw_m5 8 rfl) rfl
theorem q1100 : (Jvm.Cond.sameMethod "java/lang/AbstractStringBuilder" "java/lang/AbstractStringBuilder" "getValue" "()[B") ∈ lw_all := lw_g (lw_at lw_m5 9 rfl) rfl
theorem q1101 : (Jvm.Cond.selects "java/lang/StringBuilder" ({ cls := "java/lang/AbstractStringBuilder", name := "getValue", desc := "()[B" } : Jvm.MethodName) ({ cls := "java/lang/AbstractStringBuilder", name := "getValue", desc := "()[B" } : Jvm.MethodName)) ∈ lw_all := lw_g (lw_at lw_m5 10 rfl) rfl
theorem q1102 : (Jvm.Cond.code ({ cls := "java/lang/AbstractStringBuilder", name := "getValue", desc := "()[B" } : Jvm.MethodName) prog_12_method_64_code (1 : Nat) (Option.some (Jvm.ClassFile.FieldType.array Jvm.ClassFile.FieldType.byte))) ∈ lw_all := lw_g (lw_at lw_m5 11 rfl) rfl
theorem q1103 : (Jvm.Cond.methodLink "java/lang/String" (549 : Nat) ({ cls := "java/lang/AbstractStringBuilder", name := "length", desc := "()I" } : Jvm.MethodName)) ∈ lw_all := lw_g (lw_at lw_m5 12 rfl) rfl
theorem q1104 : (Jvm.Cond.instanceMethod ({ cls := "java/lang/AbstractStringBuilder", name := "length", desc := "()I" } : Jvm.MethodName)) ∈ lw_all := lw_g (lw_at lw_m5 13 rfl) rfl
theorem q1105 : (Jvm.Cond.sameMethod "java/lang/AbstractStringBuilder" "java/lang/AbstractStringBuilder" "length" "()I") ∈ lw_all := lw_g (lw_at lw_m5 14 rfl) rfl
theorem q1106 : (Jvm.Cond.selects "java/lang/StringBuilder" ({ cls := "java/lang/AbstractStringBuilder", name := "length", desc := "()I" } : Jvm.MethodName) ({ cls := "java/lang/StringBuilder", name := "length", desc := "()I" } : Jvm.MethodName)) ∈ lw_all := lw_g (lw_at lw_m5 15 rfl) rfl
theorem q1107 : (Jvm.Cond.instanceMethod ({ cls := "java/lang/StringBuilder", name := "length", desc := "()I" } : Jvm.MethodName)) ∈ lw_all := lw_g (lw_at lw_m5 16 rfl) rfl
theorem q1108 : (Jvm.Cond.code ({ cls := "java/lang/StringBuilder", name := "length", desc := "()I" } : Jvm.MethodName) prog_26_method_93_code (1 : Nat) (Option.some Jvm.ClassFile.FieldType.int)) ∈ lw_all := lw_g (lw_at lw_m5 17 rfl) rfl
theorem q1109 : (Jvm.Cond.methodLink "java/lang/StringBuilder" (343 : Nat) ({ cls := "java/lang/AbstractStringBuilder", name := "length", desc := "()I" } : Jvm.MethodName)) ∈ lw_all := lw_g (lw_at lw_m5 18 rfl) rfl
theorem q1110 : (Jvm.Cond.code ({ cls := "java/lang/AbstractStringBuilder", name := "length", desc := "()I" } : Jvm.MethodName) prog_12_method_6_code (1 : Nat) (Option.some Jvm.ClassFile.FieldType.int)) ∈ lw_all := lw_g (lw_at lw_m5 19 rfl) rfl
theorem q1111 : (Jvm.Cond.methodLink "java/lang/String" (1047 : Nat) ({ cls := "java/lang/AbstractStringBuilder", name := "isLatin1", desc := "()Z" } : Jvm.MethodName)) ∈ lw_all := lw_g (lw_at lw_m5 20 rfl) rfl
theorem q1112 : (Jvm.Cond.methodLink "java/lang/String" (54 : Nat) ({ cls := "java/util/Arrays", name := "copyOfRange", desc := "([BII)[B" } : Jvm.MethodName)) ∈ lw_all := lw_g (lw_at lw_m5 21 rfl) rfl
theorem q1113 : (Jvm.Cond.static ({ cls := "java/util/Arrays", name := "copyOfRange", desc := "([BII)[B" } : Jvm.MethodName)) ∈ lw_all := lw_g (lw_at lw_m5 22 rfl) rfl
theorem q1114 : (Jvm.Cond.code ({ cls := "java/util/Arrays", name := "copyOfRange", desc := "([BII)[B" } : Jvm.MethodName) prog_32_method_132_code (3 : Nat) (Option.some (Jvm.ClassFile.FieldType.array Jvm.ClassFile.FieldType.byte))) ∈ lw_all := lw_g (lw_at lw_m5 23 rfl) rfl
theorem q1115 : (Jvm.Cond.methodLink "java/util/Arrays" (339 : Nat) ({ cls := "java/util/Arrays", name := "copyOfRangeByte", desc := "([BII)[B" } : Jvm.MethodName)) ∈ lw_all := lw_g (lw_at lw_m5 24 rfl) rfl
theorem q1116 : (Jvm.Cond.static ({ cls := "java/util/Arrays", name := "copyOfRangeByte", desc := "([BII)[B" } : Jvm.MethodName)) ∈ lw_all := lw_g (lw_at lw_m5 25 rfl) rfl
theorem q1117 : (Jvm.Cond.code ({ cls := "java/util/Arrays", name := "copyOfRangeByte", desc := "([BII)[B" } : Jvm.MethodName) prog_32_method_133_code (5 : Nat) (Option.some (Jvm.ClassFile.FieldType.array Jvm.ClassFile.FieldType.byte))) ∈ lw_all := lw_g (lw_at lw_m5 26 rfl) rfl
theorem q1118 : (Jvm.Cond.methodLink "java/util/Arrays" (343 : Nat) ({ cls := "java/util/Arrays", name := "checkLength", desc := "(II)V" } : Jvm.MethodName)) ∈ lw_all := lw_g (lw_at lw_m5 27 rfl) rfl
theorem q1119 : (Jvm.Cond.static ({ cls := "java/util/Arrays", name := "checkLength", desc := "(II)V" } : Jvm.MethodName)) ∈ lw_all := lw_g (lw_at lw_m5 28 rfl) rfl
theorem q1120 : (Jvm.Cond.code ({ cls := "java/util/Arrays", name := "checkLength", desc := "(II)V" } : Jvm.MethodName) prog_32_method_131_code (2 : Nat) (Option.none : Option Jvm.ClassFile.FieldType)) ∈ lw_all := lw_g (lw_at lw_m5 29 rfl) rfl
theorem q1121 : (Jvm.Cond.fieldLink "java/lang/String" (38 : Nat) "java/lang/String" "COMPACT_STRINGS" "Z") ∈ lw_all := lw_g (lw_at lw_m5 30 rfl) rfl
theorem q1122 : (Jvm.Cond.methodLink "java/lang/String" (1051 : Nat) ({ cls := "java/lang/StringUTF16", name := "compress", desc := "([BII)[B" } : Jvm.MethodName)) ∈ lw_all := lw_g (lw_at lw_m5 31 rfl) rfl
theorem q1123 : (Jvm.Cond.static ({ cls := "java/lang/StringUTF16", name := "compress", desc := "([BII)[B" } : Jvm.MethodName)) ∈ lw_all := lw_g (lw_at lw_m5 32 rfl) rfl
theorem q1124 : (Jvm.Cond.code ({ cls := "java/lang/StringUTF16", name := "compress", desc := "([BII)[B" } : Jvm.MethodName) prog_28_method_17_code (6 : Nat) (Option.some (Jvm.ClassFile.FieldType.array Jvm.ClassFile.FieldType.byte))) ∈ lw_all := lw_g (lw_at lw_m5 33 rfl) rfl
theorem q1125 : (Jvm.Cond.methodLink "java/lang/StringUTF16" (123 : Nat) ({ cls := "java/lang/StringUTF16", name := "compress", desc := "([BI[BII)I" } : Jvm.MethodName)) ∈ lw_all := lw_g (lw_at lw_m5 34 rfl) rfl
theorem q1126 : (Jvm.Cond.static ({ cls := "java/lang/StringUTF16", name := "compress", desc := "([BI[BII)I" } : Jvm.MethodName)) ∈ lw_all := lw_g (lw_at lw_m5 35 rfl) rfl
theorem q1127 : (Jvm.Cond.code ({ cls := "java/lang/StringUTF16", name := "compress", desc := "([BI[BII)I" } : Jvm.MethodName) prog_28_method_22_code (7 : Nat) (Option.some Jvm.ClassFile.FieldType.int)) ∈ lw_all := lw_g (lw_at lw_m5 36 rfl) rfl
theorem q1128 : (Jvm.Cond.methodLink "java/lang/StringUTF16" (71 : Nat) ({ cls := "java/lang/StringUTF16", name := "getChar", desc := "([BI)C" } : Jvm.MethodName)) ∈ lw_all := lw_g (lw_at lw_m5 37 rfl) rfl
theorem q1129 : (Jvm.Cond.static ({ cls := "java/lang/StringUTF16", name := "getChar", desc := "([BI)C" } : Jvm.MethodName)) ∈ lw_all := lw_g (lw_at lw_m5 38 rfl) rfl
theorem q1130 : (Jvm.Cond.code ({ cls := "java/lang/StringUTF16", name := "getChar", desc := "([BI)C" } : Jvm.MethodName) prog_28_method_5_code (2 : Nat) (Option.some Jvm.ClassFile.FieldType.char)) ∈ lw_all := lw_g (lw_at lw_m5 39 rfl) rfl
theorem q1131 : (Jvm.Cond.methodLink "java/lang/StringUTF16" (126 : Nat) ({ cls := "java/util/Arrays", name := "copyOfRange", desc := "([BII)[B" } : Jvm.MethodName)) ∈ lw_all := lw_g (lw_at lw_m5 40 rfl) rfl
theorem q1132 : (Jvm.Cond.methodLink "java/lang/String" (47 : Nat) ({ cls := "java/lang/StringUTF16", name := "coderFromArrayLen", desc := "([BI)B" } : Jvm.MethodName)) ∈ lw_all := lw_g (lw_at lw_m5 41 rfl) rfl
theorem q1133 : (Jvm.Cond.static ({ cls := "java/lang/StringUTF16", name := "coderFromArrayLen", desc := "([BI)B" } : Jvm.MethodName)) ∈ lw_all := lw_g (lw_at lw_m5 42 rfl) rfl
theorem q1134 : (Jvm.Cond.code ({ cls := "java/lang/StringUTF16", name := "coderFromArrayLen", desc := "([BI)B" } : Jvm.MethodName) prog_28_method_15_code (2 : Nat) (Option.some Jvm.ClassFile.FieldType.byte)) ∈ lw_all := lw_g (lw_at lw_m5 43 rfl) rfl
theorem q1135 : (Jvm.Cond.fieldLink "java/lang/String" (9 : Nat) "java/lang/String" "value" "[B") ∈ lw_all := lw_g (lw_at lw_m5 44 rfl) rfl
theorem q1136 : (Jvm.Cond.fieldLink "java/lang/String" (15 : Nat) "java/lang/String" "coder" "B") ∈ lw_all := lw_g (lw_at lw_m5 45 rfl) rfl
theorem q1137 : (Jvm.Cond.fieldLink "java/lang/String" (19 : Nat) "java/lang/String" "hash" "I") ∈ lw_all := lw_g (lw_at lw_m5 46 rfl) rfl
theorem q1138 : (Jvm.Cond.fieldLink "java/lang/String" (23 : Nat) "java/lang/String" "hashIsZero" "Z") ∈ lw_all := lw_g (lw_at lw_m5 47 rfl) rfl
theorem q1139 : (Jvm.Cond.lays "java/lang/String" "java/lang/String" "hash" "I") ∈ lw_all := lw_g (lw_at lw_m5 48 rfl) rfl
theorem q1140 : (Jvm.Cond.soleField "java/lang/String" "hash") ∈ lw_all := lw_g (lw_at lw_m5 49 rfl) rfl
theorem q1141 : (Jvm.Cond.lays "java/lang/String" "java/lang/String" "hashIsZero" "Z") ∈ lw_all := lw_g (lw_at lw_m5 50 rfl) rfl
theorem q1142 : (Jvm.Cond.soleField "java/lang/String" "hashIsZero") ∈ lw_all := lw_g (lw_at lw_m5 51 rfl) rfl
theorem q1143 : (Jvm.Cond.superclass "java/lang/String" "java/lang/Object") ∈ lw_all := lw_g (lw_at lw_m5 52 rfl) rfl
theorem q1144 : (Jvm.Cond.methodLink "SecretsWorth" (446 : Nat) ({ cls := "SecretsWorth", name := "wants", desc := "(Z)V" } : Jvm.MethodName)) ∈ lw_all := lw_g (lw_at lw_m5 53 rfl) rfl
theorem q1145 : (Jvm.Cond.privateMethod ({ cls := "SecretsWorth", name := "wants", desc := "(Z)V" } : Jvm.MethodName)) ∈ lw_tbl := lw_at lw_m5 54 rfl
theorem q1146 : (Jvm.Cond.instanceMethod ({ cls := "SecretsWorth", name := "wants", desc := "(Z)V" } : Jvm.MethodName)) ∈ lw_all := lw_g (lw_at lw_m5 55 rfl) rfl
theorem q1147 : (Jvm.Cond.code ({ cls := "SecretsWorth", name := "wants", desc := "(Z)V" } : Jvm.MethodName) prog_1_method_69_code (2 : Nat) (Option.none : Option Jvm.ClassFile.FieldType)) ∈ lw_all := lw_g (lw_at lw_m5 56 rfl) rfl
theorem q1148 : (Jvm.Cond.instantiable "SecretsWorth$Fault" (7 : Nat)) ∈ lw_all := lw_g (lw_at lw_m5 57 rfl) rfl
theorem q1149 : (Jvm.Cond.castable "SecretsWorth$Fault" "SecretsWorth$Fault") ∈ lw_tbl := lw_at lw_m5 58 rfl
theorem q1150 : (Jvm.Cond.selects "SecretsWorth$Fault" ({ cls := "java/lang/Throwable", name := "fillInStackTrace", desc := "(I)Ljava/lang/Throwable;" } : Jvm.MethodName) ({ cls := "java/lang/Throwable", name := "fillInStackTrace", desc := "(I)Ljava/lang/Throwable;" } : Jvm.MethodName)) ∈ lw_all := lw_g (lw_at lw_m5 59 rfl) rfl
theorem q1151 : (Jvm.Cond.lays "SecretsWorth$Fault" "java/lang/Throwable" "cause" "Ljava/lang/Throwable;") ∈ lw_all := lw_g (lw_at lw_m5 60 rfl) rfl
theorem q1152 : (Jvm.Cond.lays "SecretsWorth$Fault" "java/lang/Throwable" "stackTrace" "[Ljava/lang/StackTraceElement;") ∈ lw_all := lw_g (lw_at lw_m5 61 rfl) rfl
theorem q1153 : (Jvm.Cond.lays "SecretsWorth$Fault" "java/lang/Throwable" "suppressedExceptions" "Ljava/util/List;") ∈ lw_all := lw_g (lw_at lw_m5 62 rfl) rfl
theorem q1154 : (Jvm.Cond.lays "SecretsWorth$Fault" "java/lang/Throwable" "detailMessage" "Ljava/lang/String;") ∈ lw_all := lw_g (lw_at lw_m5 63 rfl) rfl
theorem q1155 : (Jvm.Cond.lays "SecretsWorth$Fault" "java/lang/Throwable" "backtrace" "Ljava/lang/Object;") ∈ lw_all := lw_g (lw_at lw_m5 64 rfl) rfl
theorem q1156 : (Jvm.Cond.methodLink "SecretsWorth" (451 : Nat) ({ cls := "SecretsWorth$Fault", name := "<init>", desc := "(I)V" } : Jvm.MethodName)) ∈ lw_all := lw_g (lw_at lw_m5 65 rfl) rfl
theorem q1157 : (Jvm.Cond.instanceMethod ({ cls := "SecretsWorth$Fault", name := "<init>", desc := "(I)V" } : Jvm.MethodName)) ∈ lw_all := lw_g (lw_at lw_m5 66 rfl) rfl
theorem q1158 : (Jvm.Cond.code ({ cls := "SecretsWorth$Fault", name := "<init>", desc := "(I)V" } : Jvm.MethodName) prog_2_method_1_code (2 : Nat) (Option.none : Option Jvm.ClassFile.FieldType)) ∈ lw_all := lw_g (lw_at lw_m5 67 rfl) rfl
theorem q1159 : (Jvm.Cond.methodLink "SecretsWorth$Fault" (1 : Nat) ({ cls := "java/lang/RuntimeException", name := "<init>", desc := "(Ljava/lang/String;Ljava/lang/Throwable;ZZ)V" } : Jvm.MethodName)) ∈ lw_all := lw_g (lw_at lw_m5 68 rfl) rfl
theorem q1160 : (Jvm.Cond.fieldLink "SecretsWorth$Fault" (7 : Nat) "SecretsWorth$Fault" "place" "I") ∈ lw_all := lw_g (lw_at lw_m5 69 rfl) rfl
theorem q1161 : (Jvm.Cond.fieldLink "SecretsWorth" (548 : Nat) "SecretsWorth$Fault" "place" "I") ∈ lw_all := lw_g (lw_at lw_m5 70 rfl) rfl
theorem q1162 : (Jvm.Cond.laysFinal "SecretsWorth$Fault" "SecretsWorth$Fault" "place" "I") ∈ lw_all := lw_g (lw_at lw_m5 71 rfl) rfl
theorem q1163 : (Jvm.Cond.soleField "SecretsWorth$Fault" "place") ∈ lw_all := lw_g (lw_at lw_m5 72 rfl) rfl
theorem q1164 : (Jvm.Cond.lays "SecretsWorth$Fault" "java/lang/Throwable" "depth" "I") ∈ lw_all := lw_g (lw_at lw_m5 73 rfl) rfl
theorem q1165 : (Jvm.Cond.superclass "SecretsWorth$Fault" "java/lang/RuntimeException") ∈ lw_all := lw_g (lw_at lw_m5 74 rfl) rfl
theorem q1166 : (Jvm.Cond.methodLink "SecretsWorth" (535 : Nat) ({ cls := "SecretsWorth", name := "statement", desc := "()V" } : Jvm.MethodName)) ∈ lw_all := lw_g (lw_at lw_m5 75 rfl) rfl
theorem q1167 : (Jvm.Cond.privateMethod ({ cls := "SecretsWorth", name := "statement", desc := "()V" } : Jvm.MethodName)) ∈ lw_tbl := lw_at lw_m5 76 rfl
theorem q1168 : (Jvm.Cond.instanceMethod ({ cls := "SecretsWorth", name := "statement", desc := "()V" } : Jvm.MethodName)) ∈ lw_all := lw_g (lw_at lw_m5 77 rfl) rfl
theorem q1169 : (Jvm.Cond.code ({ cls := "SecretsWorth", name := "statement", desc := "()V" } : Jvm.MethodName) prog_1_method_76_code (5 : Nat) (Option.none : Option Jvm.ClassFile.FieldType)) ∈ lw_all := lw_g (lw_at lw_m5 78 rfl) rfl
theorem q1170 : (Jvm.Cond.methodLink "SecretsWorth" (508 : Nat) ({ cls := "SecretsWorth", name := "isVerb", desc := "(Ljava/lang/String;)Z" } : Jvm.MethodName)) ∈ lw_all := lw_g (lw_at lw_m5 79 rfl) rfl
theorem q1171 : (Jvm.Cond.static ({ cls := "SecretsWorth", name := "isVerb", desc := "(Ljava/lang/String;)Z" } : Jvm.MethodName)) ∈ lw_all := lw_g (lw_at lw_m5 80 rfl) rfl
theorem q1172 : (Jvm.Cond.code ({ cls := "SecretsWorth", name := "isVerb", desc := "(Ljava/lang/String;)Z" } : Jvm.MethodName) prog_1_method_77_code (3 : Nat) (Option.some Jvm.ClassFile.FieldType.boolean)) ∈ lw_all := lw_g (lw_at lw_m5 81 rfl) rfl
theorem q1173 : (Jvm.Cond.methodLink "SecretsWorth" (512 : Nat) ({ cls := "java/lang/String", name := "hashCode", desc := "()I" } : Jvm.MethodName)) ∈ lw_all := lw_g (lw_at lw_m5 82 rfl) rfl
theorem q1174 : (Jvm.Cond.instanceMethod ({ cls := "java/lang/String", name := "hashCode", desc := "()I" } : Jvm.MethodName)) ∈ lw_all := lw_g (lw_at lw_m5 83 rfl) rfl
theorem q1175 : (Jvm.Cond.selects "java/lang/String" ({ cls := "java/lang/String", name := "hashCode", desc := "()I" } : Jvm.MethodName) ({ cls := "java/lang/String", name := "hashCode", desc := "()I" } : Jvm.MethodName)) ∈ lw_all := lw_g (lw_at lw_m5 84 rfl) rfl
theorem q1176 : (Jvm.Cond.code ({ cls := "java/lang/String", name := "hashCode", desc := "()I" } : Jvm.MethodName) prog_25_method_78_code (2 : Nat) (Option.some Jvm.ClassFile.FieldType.int)) ∈ lw_all := lw_g (lw_at lw_m5 85 rfl) rfl
theorem q1177 : (Jvm.Cond.methodLink "java/lang/String" (492 : Nat) ({ cls := "java/lang/String", name := "isLatin1", desc := "()Z" } : Jvm.MethodName)) ∈ lw_all := lw_g (lw_at lw_m5 86 rfl) rfl
theorem q1178 : (Jvm.Cond.instanceMethod ({ cls := "java/lang/String", name := "isLatin1", desc := "()Z" } : Jvm.MethodName)) ∈ lw_all := lw_g (lw_at lw_m5 87 rfl) rfl
theorem q1179 : (Jvm.Cond.selects "java/lang/String" ({ cls := "java/lang/String", name := "isLatin1", desc := "()Z" } : Jvm.MethodName) ({ cls := "java/lang/String", name := "isLatin1", desc := "()Z" } : Jvm.MethodName)) ∈ lw_all := lw_g (lw_at lw_m5 88 rfl) rfl
theorem q1180 : (Jvm.Cond.code ({ cls := "java/lang/String", name := "isLatin1", desc := "()Z" } : Jvm.MethodName) prog_25_method_154_code (1 : Nat) (Option.some Jvm.ClassFile.FieldType.boolean)) ∈ lw_all := lw_g (lw_at lw_m5 89 rfl) rfl
theorem q1181 : (Jvm.Cond.methodLink "java/lang/String" (628 : Nat) ({ cls := "java/lang/StringLatin1", name := "hashCode", desc := "([B)I" } : Jvm.MethodName)) ∈ lw_all := lw_g (lw_at lw_m5 90 rfl) rfl
theorem q1182 : (Jvm.Cond.static ({ cls := "java/lang/StringLatin1", name := "hashCode", desc := "([B)I" } : Jvm.MethodName)) ∈ lw_all := lw_g (lw_at lw_m5 91 rfl) rfl
theorem q1183 : (Jvm.Cond.code ({ cls := "java/lang/StringLatin1", name := "hashCode", desc := "([B)I" } : Jvm.MethodName) prog_27_method_21_code (1 : Nat) (Option.some Jvm.ClassFile.FieldType.int)) ∈ lw_all := lw_g (lw_at lw_m5 92 rfl) rfl
theorem q1184 : (Jvm.Cond.methodLink "java/lang/StringLatin1" (84 : Nat) ({ cls := "jdk/internal/util/ArraysSupport", name := "vectorizedHashCode", desc := "(Ljava/lang/Object;IIII)I" } : Jvm.MethodName)) ∈ lw_all := lw_g (lw_at lw_m5 93 rfl) rfl
theorem q1185 : (Jvm.Cond.static ({ cls := "jdk/internal/util/ArraysSupport", name := "vectorizedHashCode", desc := "(Ljava/lang/Object;IIII)I" } : Jvm.MethodName)) ∈ lw_all := lw_g (lw_at lw_m5 94 rfl) rfl
theorem q1186 : (Jvm.Cond.code ({ cls := "jdk/internal/util/ArraysSupport", name := "vectorizedHashCode", desc := "(Ljava/lang/Object;IIII)I" } : Jvm.MethodName) prog_34_method_4_code (5 : Nat) (Option.some Jvm.ClassFile.FieldType.int)) ∈ lw_all := lw_g (lw_at lw_m5 95 rfl) rfl
theorem q1187 : (Jvm.Cond.classLink "jdk/internal/util/ArraysSupport" (60 : Nat) "[B") ∈ lw_all := lw_g (lw_at lw_m5 96 rfl) rfl
theorem q1188 : (Jvm.Cond.methodLink "jdk/internal/util/ArraysSupport" (62 : Nat) ({ cls := "jdk/internal/util/ArraysSupport", name := "signedHashCode", desc := "(I[BII)I" } : Jvm.MethodName)) ∈ lw_all := lw_g (lw_at lw_m5 97 rfl) rfl
theorem q1189 : (Jvm.Cond.static ({ cls := "jdk/internal/util/ArraysSupport", name := "signedHashCode", desc := "(I[BII)I" } : Jvm.MethodName)) ∈ lw_all := lw_g (lw_at lw_m5 98 rfl) rfl
theorem q1190 : (Jvm.Cond.code ({ cls := "jdk/internal/util/ArraysSupport", name := "signedHashCode", desc := "(I[BII)I" } : Jvm.MethodName) prog_34_method_5_code (6 : Nat) (Option.some Jvm.ClassFile.FieldType.int)) ∈ lw_all := lw_g (lw_at lw_m5 99 rfl) rfl
theorem q1191 : (Jvm.Cond.methodLink "jdk/internal/util/ArraysSupport" (66 : Nat) ({ cls := "jdk/internal/util/ArraysSupport", name := "utf16hashCode", desc := "(I[BII)I" } : Jvm.MethodName)) ∈ lw_all := lw_g (lw_at lw_m5 100 rfl) rfl
theorem q1192 : (Jvm.Cond.static ({ cls := "jdk/internal/util/ArraysSupport", name := "utf16hashCode", desc := "(I[BII)I" } : Jvm.MethodName)) ∈ lw_all := lw_g (lw_at lw_m5 101 rfl) rfl
theorem q1193 : (Jvm.Cond.code ({ cls := "jdk/internal/util/ArraysSupport", name := "utf16hashCode", desc := "(I[BII)I" } : Jvm.MethodName) prog_34_method_10_code (6 : Nat) (Option.some Jvm.ClassFile.FieldType.int)) ∈ lw_all := lw_g (lw_at lw_m5 102 rfl) rfl
theorem q1194 : (Jvm.Cond.fieldLink "jdk/internal/util/ArraysSupport" (106 : Nat) "jdk/internal/util/ArraysSupport" "JLA" "Ljdk/internal/access/JavaLangAccess;") ∈ lw_all := lw_g (lw_at lw_m5 103 rfl) rfl
theorem q1195 : (Jvm.Cond.laysStatic "jdk/internal/util/ArraysSupport" "JLA" "Ljdk/internal/access/JavaLangAccess;") ∈ lw_tbl := lw_at lw_m5 104 rfl
theorem q1196 : (Jvm.Cond.interfaceEntry "jdk/internal/util/ArraysSupport" (110 : Nat)) ∈ lw_tbl := lw_at lw_m5 105 rfl
theorem q1197 : (Jvm.Cond.methodLink "jdk/internal/util/ArraysSupport" (110 : Nat) ({ cls := "jdk/internal/access/JavaLangAccess", name := "getUTF16Char", desc := "([BI)C" } : Jvm.MethodName)) ∈ lw_all := lw_g (lw_at lw_m5 106 rfl) rfl
theorem q1198 : (Jvm.Cond.interfaceMethod "jdk/internal/access/JavaLangAccess" "jdk/internal/access/JavaLangAccess" "getUTF16Char" "([BI)C") ∈ lw_tbl := lw_at lw_m5 107 rfl
theorem q1199 : (Jvm.Cond.declares ({ cls := "jdk/internal/access/JavaLangAccess", name := "getUTF16Char", desc := "([BI)C" } : Jvm.MethodName)) ∈ lw_tbl := lw_at lw_m5 108 rfl
theorem q1200 : (Jvm.Cond.castable "java/lang/System$2" "jdk/internal/access/JavaLangAccess") ∈ lw_tbl := lw_at lw_m5 109 rfl
theorem q1201 : (Jvm.Cond.selects "java/lang/System$2" ({ cls := "jdk/internal/access/JavaLangAccess", name := "getUTF16Char", desc := "([BI)C" } : Jvm.MethodName) ({ cls := "java/lang/System$2", name := "getUTF16Char", desc := "([BI)C" } : Jvm.MethodName)) ∈ lw_all := lw_g (lw_at lw_m5 110 rfl) rfl
theorem q1202 : (Jvm.Cond.unhidden "java/lang/System$2" "getUTF16Char" "([BI)C") ∈ lw_tbl := lw_at lw_m5 111 rfl
theorem q1203 : (Jvm.Cond.instanceMethod ({ cls := "java/lang/System$2", name := "getUTF16Char", desc := "([BI)C" } : Jvm.MethodName)) ∈ lw_all := lw_g (lw_at lw_m5 112 rfl) rfl
theorem q1204 : (Jvm.Cond.publicMethod ({ cls := "java/lang/System$2", name := "getUTF16Char", desc := "([BI)C" } : Jvm.MethodName)) ∈ lw_tbl := lw_at lw_m5 113 rfl
theorem q1205 : (Jvm.Cond.code ({ cls := "java/lang/System$2", name := "getUTF16Char", desc := "([BI)C" } : Jvm.MethodName) prog_30_method_45_code (3 : Nat) (Option.some Jvm.ClassFile.FieldType.char)) ∈ lw_all := lw_g (lw_at lw_m5 114 rfl) rfl
theorem q1206 : (Jvm.Cond.methodLink "java/lang/System$2" (185 : Nat) ({ cls := "java/lang/StringUTF16", name := "getChar", desc := "([BI)C" } : Jvm.MethodName)) ∈ lw_all := lw_g (lw_at lw_m5 115 rfl) rfl
theorem q1207 : (Jvm.Cond.classLink "jdk/internal/util/ArraysSupport" (69 : Nat) "[C") ∈ lw_all := lw_g (lw_at lw_m5 116 rfl) rfl
theorem q1208 : (Jvm.Cond.methodLink "jdk/internal/util/ArraysSupport" (71 : Nat) ({ cls := "jdk/internal/util/ArraysSupport", name := "hashCode", desc := "(I[CII)I" } : Jvm.MethodName)) ∈ lw_all := lw_g (lw_at lw_m5 117 rfl) rfl
theorem q1209 : (Jvm.Cond.static ({ cls := "jdk/internal/util/ArraysSupport", name := "hashCode", desc := "(I[CII)I" } : Jvm.MethodName)) ∈ lw_all := lw_g (lw_at lw_m5 118 rfl) rfl
theorem q1210 : (Jvm.Cond.code ({ cls := "jdk/internal/util/ArraysSupport", name := "hashCode", desc := "(I[CII)I" } : Jvm.MethodName) prog_34_method_7_code (6 : Nat) (Option.some Jvm.ClassFile.FieldType.int)) ∈ lw_all := lw_g (lw_at lw_m5 119 rfl) rfl
theorem q1211 : (Jvm.Cond.methodLink "jdk/internal/util/ArraysSupport" (75 : Nat) ({ cls := "jdk/internal/util/ArraysSupport", name := "hashCode", desc := "(I[BII)I" } : Jvm.MethodName)) ∈ lw_all := lw_g (lw_at lw_m5 120 rfl) rfl
theorem q1212 : (Jvm.Cond.static ({ cls := "jdk/internal/util/ArraysSupport", name := "hashCode", desc := "(I[BII)I" } : Jvm.MethodName)) ∈ lw_all := lw_g (lw_at lw_m5 121 rfl) rfl
theorem q1213 : (Jvm.Cond.code ({ cls := "jdk/internal/util/ArraysSupport", name := "hashCode", desc := "(I[BII)I" } : Jvm.MethodName) prog_34_method_6_code (6 : Nat) (Option.some Jvm.ClassFile.FieldType.int)) ∈ lw_all := lw_g (lw_at lw_m5 122 rfl) rfl
theorem q1214 : (Jvm.Cond.classLink "jdk/internal/util/ArraysSupport" (77 : Nat) "[S") ∈ lw_all := lw_g (lw_at lw_m5 123 rfl) rfl
theorem q1215 : (Jvm.Cond.methodLink "jdk/internal/util/ArraysSupport" (79 : Nat) ({ cls := "jdk/internal/util/ArraysSupport", name := "hashCode", desc := "(I[SII)I" } : Jvm.MethodName)) ∈ lw_all := lw_g (lw_at lw_m5 124 rfl) rfl
theorem q1216 : (Jvm.Cond.static ({ cls := "jdk/internal/util/ArraysSupport", name := "hashCode", desc := "(I[SII)I" } : Jvm.MethodName)) ∈ lw_all := lw_g (lw_at lw_m5 125 rfl) rfl
theorem q1217 : (Jvm.Cond.code ({ cls := "jdk/internal/util/ArraysSupport", name := "hashCode", desc := "(I[SII)I" } : Jvm.MethodName) prog_34_method_8_code (6 : Nat) (Option.some Jvm.ClassFile.FieldType.int)) ∈ lw_all := lw_g (lw_at lw_m5 126 rfl) rfl
theorem q1218 : (Jvm.Cond.classLink "jdk/internal/util/ArraysSupport" (82 : Nat) "[I") ∈ lw_all := lw_g (lw_at lw_m5 127 rfl) rfl
theorem q1219 : (Jvm.Cond.methodLink "jdk/internal/util/ArraysSupport" (84 : Nat) ({ cls := "jdk/internal/util/ArraysSupport", name := "hashCode", desc := "(I[III)I" } : Jvm.MethodName)) ∈ lw_all := lw_g (lw_at lw_m5 128 rfl) rfl
theorem q1220 : (Jvm.Cond.static ({ cls := "jdk/internal/util/ArraysSupport", name := "hashCode", desc := "(I[III)I" } : Jvm.MethodName)) ∈ lw_all := lw_g (lw_at lw_m5 129 rfl) rfl
theorem q1221 : (Jvm.Cond.code ({ cls := "jdk/internal/util/ArraysSupport", name := "hashCode", desc := "(I[III)I" } : Jvm.MethodName) prog_34_method_9_code (6 : Nat) (Option.some Jvm.ClassFile.FieldType.int)) ∈ lw_all := lw_g (lw_at lw_m5 130 rfl) rfl
theorem q1222 : (Jvm.Cond.methodLink "java/lang/String" (632 : Nat) ({ cls := "java/lang/StringUTF16", name := "hashCode", desc := "([B)I" } : Jvm.MethodName)) ∈ lw_all := lw_g (lw_at lw_m5 131 rfl) rfl
theorem q1223 : (Jvm.Cond.static ({ cls := "java/lang/StringUTF16", name := "hashCode", desc := "([B)I" } : Jvm.MethodName)) ∈ lw_all := lw_g (lw_at lw_m5 132 rfl) rfl
theorem q1224 : (Jvm.Cond.code ({ cls := "java/lang/StringUTF16", name := "hashCode", desc := "([B)I" } : Jvm.MethodName) prog_28_method_39_code (1 : Nat) (Option.some Jvm.ClassFile.FieldType.int)) ∈ lw_all := lw_g (lw_at lw_m5 133 rfl) rfl
theorem q1225 : (Jvm.Cond.methodLink "java/lang/StringUTF16" (220 : Nat) ({ cls := "jdk/internal/util/ArraysSupport", name := "vectorizedHashCode", desc := "(Ljava/lang/Object;IIII)I" } : Jvm.MethodName)) ∈ lw_all := lw_g (lw_at lw_m5 134 rfl) rfl
theorem q1226 : (Jvm.Cond.stringRef "SecretsWorth" (515 : Nat) "states") ∈ lw_tbl := lw_at lw_m5 135 rfl
theorem q1227 : (Jvm.Cond.methodLink "SecretsWorth" (496 : Nat) ({ cls := "java/lang/String", name := "equals", desc := "(Ljava/lang/Object;)Z" } : Jvm.MethodName)) ∈ lw_all := lw_g (lw_at lw_m5 136 rfl) rfl
theorem q1228 : (Jvm.Cond.instanceMethod ({ cls := "java/lang/String", name := "equals", desc := "(Ljava/lang/Object;)Z" } : Jvm.MethodName)) ∈ lw_all := lw_g (lw_at lw_m5 137 rfl) rfl
theorem q1229 : (Jvm.Cond.selects "java/lang/String" ({ cls := "java/lang/String", name := "equals", desc := "(Ljava/lang/Object;)Z" } : Jvm.MethodName) ({ cls := "java/lang/String", name := "equals", desc := "(Ljava/lang/Object;)Z" } : Jvm.MethodName)) ∈ lw_all := lw_g (lw_at lw_m5 138 rfl) rfl
theorem q1230 : (Jvm.Cond.code ({ cls := "java/lang/String", name := "equals", desc := "(Ljava/lang/Object;)Z" } : Jvm.MethodName) prog_25_method_66_code (3 : Nat) (Option.some Jvm.ClassFile.FieldType.boolean)) ∈ lw_all := lw_g (lw_at lw_m5 139 rfl) rfl
theorem q1231 : (Jvm.Cond.classLink "java/lang/String" (10 : Nat) "java/lang/String") ∈ lw_all := lw_g (lw_at lw_m5 140 rfl) rfl
theorem q1232 : (Jvm.Cond.methodLink "java/lang/String" (541 : Nat) ({ cls := "java/lang/StringLatin1", name := "equals", desc := "([B[B)Z" } : Jvm.MethodName)) ∈ lw_all := lw_g (lw_at lw_m5 141 rfl) rfl
theorem q1233 : (Jvm.Cond.static ({ cls := "java/lang/StringLatin1", name := "equals", desc := "([B[B)Z" } : Jvm.MethodName)) ∈ lw_all := lw_g (lw_at lw_m5 142 rfl) rfl
theorem q1234 : (Jvm.Cond.code ({ cls := "java/lang/StringLatin1", name := "equals", desc := "([B[B)Z" } : Jvm.MethodName) prog_27_method_13_code (3 : Nat) (Option.some Jvm.ClassFile.FieldType.boolean)) ∈ lw_all := lw_g (lw_at lw_m5 143 rfl) rfl
theorem q1235 : (Jvm.Cond.stringRef "SecretsWorth" (516 : Nat) "parts") ∈ lw_tbl := lw_at lw_m5 144 rfl
theorem q1236 : (Jvm.Cond.stringRef "SecretsWorth" (517 : Nat) "size") ∈ lw_tbl := lw_at lw_m5 145 rfl
theorem q1237 : (Jvm.Cond.stringRef "SecretsWorth" (519 : Nat) "game") ∈ lw_tbl := lw_at lw_m5 146 rfl
theorem q1238 : (Jvm.Cond.stringRef "SecretsWorth" (521 : Nat) "prior") ∈ lw_tbl := lw_at lw_m5 147 rfl
theorem q1239 : (Jvm.Cond.stringRef "SecretsWorth" (522 : Nat) "target") ∈ lw_tbl := lw_at lw_m5 148 rfl
theorem q1240 : (Jvm.Cond.stringRef "SecretsWorth" (534 : Nat) "tree") ∈ lw_tbl := lw_at lw_m5 149 rfl
theorem q1241 : (Jvm.Cond.methodLink "SecretsWorth" (455 : Nat) ({ cls := "SecretsWorth", name := "numberIn", desc := "(II)I" } : Jvm.MethodName)) ∈ lw_all := lw_g (lw_at lw_m5 150 rfl) rfl
theorem q1242 : (Jvm.Cond.privateMethod ({ cls := "SecretsWorth", name := "numberIn", desc := "(II)I" } : Jvm.MethodName)) ∈ lw_tbl := lw_at lw_m5 151 rfl
theorem q1243 : (Jvm.Cond.instanceMethod ({ cls := "SecretsWorth", name := "numberIn", desc := "(II)I" } : Jvm.MethodName)) ∈ lw_all := lw_g (lw_at lw_m5 152 rfl) rfl
theorem q1244 : (Jvm.Cond.code ({ cls := "SecretsWorth", name := "numberIn", desc := "(II)I" } : Jvm.MethodName) prog_1_method_70_code (4 : Nat) (Option.some Jvm.ClassFile.FieldType.int)) ∈ lw_all := lw_g (lw_at lw_m5 153 rfl) rfl
theorem q1245 : (Jvm.Cond.methodLink "SecretsWorth" (527 : Nat) ({ cls := "SecretsWorth", name := "readsGame", desc := "()V" } : Jvm.MethodName)) ∈ lw_all := lw_g (lw_at lw_m5 154 rfl) rfl
theorem q1246 : (Jvm.Cond.privateMethod ({ cls := "SecretsWorth", name := "readsGame", desc := "()V" } : Jvm.MethodName)) ∈ lw_tbl := lw_at lw_m5 155 rfl
theorem q1247 : (Jvm.Cond.instanceMethod ({ cls := "SecretsWorth", name := "readsGame", desc := "()V" } : Jvm.MethodName)) ∈ lw_all := lw_g (lw_at lw_m5 156 rfl) rfl
theorem q1248 : (Jvm.Cond.code ({ cls := "SecretsWorth", name := "readsGame", desc := "()V" } : Jvm.MethodName) prog_1_method_72_code (4 : Nat) (Option.none : Option Jvm.ClassFile.FieldType)) ∈ lw_all := lw_g (lw_at lw_m5 157 rfl) rfl
theorem q1249 : (Jvm.Cond.methodLink "SecretsWorth" (459 : Nat) ({ cls := "SecretsWorth", name := "signed", desc := "(I)I" } : Jvm.MethodName)) ∈ lw_all := lw_g (lw_at lw_m5 158 rfl) rfl
theorem q1250 : (Jvm.Cond.privateMethod ({ cls := "SecretsWorth", name := "signed", desc := "(I)I" } : Jvm.MethodName)) ∈ lw_tbl := lw_at lw_m5 159 rfl
theorem q1251 : (Jvm.Cond.instanceMethod ({ cls := "SecretsWorth", name := "signed", desc := "(I)I" } : Jvm.MethodName)) ∈ lw_all := lw_g (lw_at lw_m5 160 rfl) rfl
theorem q1252 : (Jvm.Cond.code ({ cls := "SecretsWorth", name := "signed", desc := "(I)I" } : Jvm.MethodName) prog_1_method_71_code (4 : Nat) (Option.some Jvm.ClassFile.FieldType.int)) ∈ lw_all := lw_g (lw_at lw_m5 161 rfl) rfl
theorem q1253 : (Jvm.Cond.methodLink "SecretsWorth" (465 : Nat) ({ cls := "SecretsWorth", name := "readsNode", desc := "(I)LSecretsWorth$Node;" } : Jvm.MethodName)) ∈ lw_all := lw_g (lw_at lw_m5 162 rfl) rfl
theorem q1254 : (Jvm.Cond.privateMethod ({ cls := "SecretsWorth", name := "readsNode", desc := "(I)LSecretsWorth$Node;" } : Jvm.MethodName)) ∈ lw_tbl := lw_at lw_m5 163 rfl
theorem q1255 : (Jvm.Cond.instanceMethod ({ cls := "SecretsWorth", name := "readsNode", desc := "(I)LSecretsWorth$Node;" } : Jvm.MethodName)) ∈ lw_all := lw_g (lw_at lw_m5 164 rfl) rfl
theorem q1256 : (Jvm.Cond.code ({ cls := "SecretsWorth", name := "readsNode", desc := "(I)LSecretsWorth$Node;" } : Jvm.MethodName) prog_1_method_75_code (3 : Nat) (Option.some (Jvm.ClassFile.FieldType.object "SecretsWorth$Node"))) ∈ lw_all := lw_g (lw_at lw_m5 165 rfl) rfl
theorem q1257 : (Jvm.Cond.classLink "SecretsWorth" (470 : Nat) "SecretsWorth$Node") ∈ lw_all := lw_g (lw_at lw_m5 166 rfl) rfl
theorem q1258 : (Jvm.Cond.instantiable "SecretsWorth$Node" (4 : Nat)) ∈ lw_all := lw_g (lw_at lw_m5 167 rfl) rfl
theorem q1259 : (Jvm.Cond.methodLink "SecretsWorth" (493 : Nat) ({ cls := "SecretsWorth$Node", name := "<init>", desc := "(I)V" } : Jvm.MethodName)) ∈ lw_all := lw_g (lw_at lw_m5 168 rfl) rfl
theorem q1260 : (Jvm.Cond.instanceMethod ({ cls := "SecretsWorth$Node", name := "<init>", desc := "(I)V" } : Jvm.MethodName)) ∈ lw_all := lw_g (lw_at lw_m5 169 rfl) rfl
theorem q1261 : (Jvm.Cond.code ({ cls := "SecretsWorth$Node", name := "<init>", desc := "(I)V" } : Jvm.MethodName) prog_4_method_1_code (2 : Nat) (Option.none : Option Jvm.ClassFile.FieldType)) ∈ lw_all := lw_g (lw_at lw_m5 170 rfl) rfl
theorem q1262 : (Jvm.Cond.methodLink "SecretsWorth$Node" (3 : Nat) ({ cls := "java/lang/Object", name := "<init>", desc := "()V" } : Jvm.MethodName)) ∈ lw_all := lw_g (lw_at lw_m5 171 rfl) rfl
theorem q1263 : (Jvm.Cond.classLink "SecretsWorth$Node" (9 : Nat) "SecretsWorth$Node") ∈ lw_all := lw_g (lw_at lw_m5 172 rfl) rfl
theorem q1264 : (Jvm.Cond.arrayOver (Jvm.ClassFile.FieldType.object "SecretsWorth$Node")) ∈ lw_tbl := lw_at lw_m5 173 rfl
theorem q1265 : (Jvm.Cond.fieldLink "SecretsWorth$Node" (15 : Nat) "SecretsWorth$Node" "point" "I") ∈ lw_all := lw_g (lw_at lw_m5 174 rfl) rfl
theorem q1266 : (Jvm.Cond.fieldLink "SecretsWorth" (479 : Nat) "SecretsWorth$Node" "point" "I") ∈ lw_all := lw_g (lw_at lw_m5 175 rfl) rfl
theorem q1267 : (Jvm.Cond.fieldLink "SecretsWorth$Node" (45 : Nat) "SecretsWorth$Node" "rounds" "I") ∈ lw_all := lw_g (lw_at lw_m5 176 rfl) rfl
theorem q1268 : (Jvm.Cond.fieldLink "SecretsWorth" (502 : Nat) "SecretsWorth$Node" "rounds" "I") ∈ lw_all := lw_g (lw_at lw_m5 177 rfl) rfl
theorem q1269 : (Jvm.Cond.fieldLink "SecretsWorth$Node" (11 : Nat) "SecretsWorth$Node" "under" "[LSecretsWorth$Node;") ∈ lw_all := lw_g (lw_at lw_m5 178 rfl) rfl
theorem q1270 : (Jvm.Cond.fieldLink "SecretsWorth" (475 : Nat) "SecretsWorth$Node" "under" "[LSecretsWorth$Node;") ∈ lw_all := lw_g (lw_at lw_m5 179 rfl) rfl
theorem q1271 : (Jvm.Cond.fieldLink "SecretsWorth$Node" (19 : Nat) "SecretsWorth$Node" "many" "I") ∈ lw_all := lw_g (lw_at lw_m5 180 rfl) rfl
theorem q1272 : (Jvm.Cond.fieldLink "SecretsWorth" (474 : Nat) "SecretsWorth$Node" "many" "I") ∈ lw_all := lw_g (lw_at lw_m5 181 rfl) rfl
theorem q1273 : (Jvm.Cond.laysFinal "SecretsWorth$Node" "SecretsWorth$Node" "point" "I") ∈ lw_all := lw_g (lw_at lw_m5 182 rfl) rfl
theorem q1274 : (Jvm.Cond.soleField "SecretsWorth$Node" "point") ∈ lw_all := lw_g (lw_at lw_m5 183 rfl) rfl
theorem q1275 : (Jvm.Cond.lays "SecretsWorth$Node" "SecretsWorth$Node" "rounds" "I") ∈ lw_all := lw_g (lw_at lw_m5 184 rfl) rfl
theorem q1276 : (Jvm.Cond.soleField "SecretsWorth$Node" "rounds") ∈ lw_all := lw_g (lw_at lw_m5 185 rfl) rfl
theorem q1277 : (Jvm.Cond.laysFinal "SecretsWorth$Node" "SecretsWorth$Node" "under" "[LSecretsWorth$Node;") ∈ lw_all := lw_g (lw_at lw_m5 186 rfl) rfl
theorem q1278 : (Jvm.Cond.soleField "SecretsWorth$Node" "under") ∈ lw_all := lw_g (lw_at lw_m5 187 rfl) rfl
theorem q1279 : (Jvm.Cond.lays "SecretsWorth$Node" "SecretsWorth$Node" "many" "I") ∈ lw_all := lw_g (lw_at lw_m5 188 rfl) rfl
theorem q1280 : (Jvm.Cond.soleField "SecretsWorth$Node" "many") ∈ lw_all := lw_g (lw_at lw_m5 189 rfl) rfl
theorem q1281 : (Jvm.Cond.superclass "SecretsWorth$Node" "java/lang/Object") ∈ lw_all := lw_g (lw_at lw_m5 190 rfl) rfl
theorem q1282 : (Jvm.Cond.stringRef "SecretsWorth" (494 : Nat) "stay") ∈ lw_tbl := lw_at lw_m5 191 rfl
theorem q1283 : (Jvm.Cond.methodLink "SecretsWorth" (505 : Nat) ({ cls := "SecretsWorth", name := "readsUnder", desc := "(LSecretsWorth$Node;)V" } : Jvm.MethodName)) ∈ lw_all := lw_g (lw_at lw_m5 192 rfl) rfl
theorem q1284 : (Jvm.Cond.privateMethod ({ cls := "SecretsWorth", name := "readsUnder", desc := "(LSecretsWorth$Node;)V" } : Jvm.MethodName)) ∈ lw_tbl := lw_at lw_m5 193 rfl
theorem q1285 : (Jvm.Cond.instanceMethod ({ cls := "SecretsWorth", name := "readsUnder", desc := "(LSecretsWorth$Node;)V" } : Jvm.MethodName)) ∈ lw_all := lw_g (lw_at lw_m5 194 rfl) rfl
theorem q1286 : (Jvm.Cond.code ({ cls := "SecretsWorth", name := "readsUnder", desc := "(LSecretsWorth$Node;)V" } : Jvm.MethodName) prog_1_method_73_code (2 : Nat) (Option.none : Option Jvm.ClassFile.FieldType)) ∈ lw_all := lw_g (lw_at lw_m5 195 rfl) rfl
theorem q1287 : (Jvm.Cond.methodLink "SecretsWorth" (469 : Nat) ({ cls := "SecretsWorth$Node", name := "add", desc := "(LSecretsWorth$Node;)V" } : Jvm.MethodName)) ∈ lw_all := lw_g (lw_at lw_m5 196 rfl) rfl
theorem q1288 : (Jvm.Cond.instanceMethod ({ cls := "SecretsWorth$Node", name := "add", desc := "(LSecretsWorth$Node;)V" } : Jvm.MethodName)) ∈ lw_all := lw_g (lw_at lw_m5 197 rfl) rfl
theorem q1289 : (Jvm.Cond.selects "SecretsWorth$Node" ({ cls := "SecretsWorth$Node", name := "add", desc := "(LSecretsWorth$Node;)V" } : Jvm.MethodName) ({ cls := "SecretsWorth$Node", name := "add", desc := "(LSecretsWorth$Node;)V" } : Jvm.MethodName)) ∈ lw_all := lw_g (lw_at lw_m5 198 rfl) rfl
theorem q1290 : (Jvm.Cond.code ({ cls := "SecretsWorth$Node", name := "add", desc := "(LSecretsWorth$Node;)V" } : Jvm.MethodName) prog_4_method_2_code (2 : Nat) (Option.none : Option Jvm.ClassFile.FieldType)) ∈ lw_all := lw_g (lw_at lw_m5 199 rfl) rfl
theorem q1291 : (Jvm.Cond.methodLink "SecretsWorth" (482 : Nat) ({ cls := "SecretsWorth", name := "isSplit", desc := "(LSecretsWorth$Node;)Z" } : Jvm.MethodName)) ∈ lw_all := lw_g (lw_at lw_m5 200 rfl) rfl
theorem q1292 : (Jvm.Cond.privateMethod ({ cls := "SecretsWorth", name := "isSplit", desc := "(LSecretsWorth$Node;)Z" } : Jvm.MethodName)) ∈ lw_tbl := lw_at lw_m5 201 rfl
theorem q1293 : (Jvm.Cond.instanceMethod ({ cls := "SecretsWorth", name := "isSplit", desc := "(LSecretsWorth$Node;)Z" } : Jvm.MethodName)) ∈ lw_all := lw_g (lw_at lw_m5 202 rfl) rfl
theorem q1294 : (Jvm.Cond.code ({ cls := "SecretsWorth", name := "isSplit", desc := "(LSecretsWorth$Node;)Z" } : Jvm.MethodName) prog_1_method_74_code (2 : Nat) (Option.some Jvm.ClassFile.FieldType.boolean)) ∈ lw_all := lw_g (lw_at lw_m5 203 rfl) rfl
theorem q1295 : (Jvm.Cond.methodLink "SecretsWorth" (486 : Nat) ({ cls := "SecretsWorth", name := "splitsBy", desc := "(LSecretsWorth$House;LSecretsWorth$Node;)Z" } : Jvm.MethodName)) ∈ lw_all := lw_g (lw_at lw_m5 204 rfl) rfl
theorem q1296 : (Jvm.Cond.privateMethod ({ cls := "SecretsWorth", name := "splitsBy", desc := "(LSecretsWorth$House;LSecretsWorth$Node;)Z" } : Jvm.MethodName)) ∈ lw_tbl := lw_at lw_m5 205 rfl
theorem q1297 : (Jvm.Cond.instanceMethod ({ cls := "SecretsWorth", name := "splitsBy", desc := "(LSecretsWorth$House;LSecretsWorth$Node;)Z" } : Jvm.MethodName)) ∈ lw_all := lw_g (lw_at lw_m5 206 rfl) rfl
theorem q1298 : (Jvm.Cond.code ({ cls := "SecretsWorth", name := "splitsBy", desc := "(LSecretsWorth$House;LSecretsWorth$Node;)Z" } : Jvm.MethodName) prog_1_method_80_code (7 : Nat) (Option.some Jvm.ClassFile.FieldType.boolean)) ∈ lw_all := lw_g (lw_at lw_m5 207 rfl) rfl
theorem q1299 : (Jvm.Cond.methodLink "SecretsWorth" (538 : Nat) ({ cls := "java/lang/String", name := "isEmpty", desc := "()Z" } : Jvm.MethodName)) ∈ lw_all := lw_g (lw_at lw_m5 208 rfl) rfl
theorem q1300 : (Jvm.Cond.instanceMethod ({ cls := "java/lang/String", name := "isEmpty", desc := "()Z" } : Jvm.MethodName)) ∈ lw_all := lw_g (lw_at lw_m5 209 rfl) rfl
theorem q1301 : (Jvm.Cond.selects "java/lang/String" ({ cls := "java/lang/String", name := "isEmpty", desc := "()Z" } : Jvm.MethodName) ({ cls := "java/lang/String", name := "isEmpty", desc := "()Z" } : Jvm.MethodName)) ∈ lw_all := lw_g (lw_at lw_m5 210 rfl) rfl
theorem q1302 : (Jvm.Cond.code ({ cls := "java/lang/String", name := "isEmpty", desc := "()Z" } : Jvm.MethodName) prog_25_method_55_code (1 : Nat) (Option.some Jvm.ClassFile.FieldType.boolean)) ∈ lw_all := lw_g (lw_at lw_m5 211 rfl) rfl
theorem q1303 : (Jvm.Cond.methodLink "SecretsWorthLaw" (114 : Nat) ({ cls := "SecretsWorth", name := "tree", desc := "(I)I" } : Jvm.MethodName)) ∈ lw_all := lw_g (lw_at lw_m5 212 rfl) rfl
theorem q1304 : (Jvm.Cond.instanceMethod ({ cls := "SecretsWorth", name := "tree", desc := "(I)I" } : Jvm.MethodName)) ∈ lw_all := lw_g (lw_at lw_m5 213 rfl) rfl
theorem q1305 : (Jvm.Cond.selects "SecretsWorth" ({ cls := "SecretsWorth", name := "tree", desc := "(I)I" } : Jvm.MethodName) ({ cls := "SecretsWorth", name := "tree", desc := "(I)I" } : Jvm.MethodName)) ∈ lw_all := lw_g (lw_at lw_m5 214 rfl) rfl
theorem q1306 : (Jvm.Cond.codeWith ({ cls := "SecretsWorth", name := "tree", desc := "(I)I" } : Jvm.MethodName) prog_1_method_84_code (3 : Nat) (Option.some Jvm.ClassFile.FieldType.int) [((0 : Nat), (93 : Nat), (94 : Nat), (1 : Nat))]) ∈ lw_all := lw_g (lw_at lw_m5 215 rfl) rfl
theorem q1307 : (Jvm.Cond.methodLink "SecretsWorth" (559 : Nat) ({ cls := "SecretsWorth", name := "mustGrow", desc := "()V" } : Jvm.MethodName)) ∈ lw_all := lw_g (lw_at lw_m5 216 rfl) rfl
theorem q1308 : (Jvm.Cond.privateMethod ({ cls := "SecretsWorth", name := "mustGrow", desc := "()V" } : Jvm.MethodName)) ∈ lw_tbl := lw_at lw_m5 217 rfl
theorem q1309 : (Jvm.Cond.instanceMethod ({ cls := "SecretsWorth", name := "mustGrow", desc := "()V" } : Jvm.MethodName)) ∈ lw_all := lw_g (lw_at lw_m5 218 rfl) rfl
theorem q1310 : (Jvm.Cond.code ({ cls := "SecretsWorth", name := "mustGrow", desc := "()V" } : Jvm.MethodName) prog_1_method_83_code (1 : Nat) (Option.none : Option Jvm.ClassFile.FieldType)) ∈ lw_all := lw_g (lw_at lw_m5 219 rfl) rfl
theorem q1311 : (Jvm.Cond.methodLink "SecretsWorth" (562 : Nat) ({ cls := "SecretsWorth$Node", name := "nodes", desc := "()I" } : Jvm.MethodName)) ∈ lw_all := lw_g (lw_at lw_m5 220 rfl) rfl
theorem q1312 : (Jvm.Cond.instanceMethod ({ cls := "SecretsWorth$Node", name := "nodes", desc := "()I" } : Jvm.MethodName)) ∈ lw_all := lw_g (lw_at lw_m5 221 rfl) rfl
theorem q1313 : (Jvm.Cond.selects "SecretsWorth$Node" ({ cls := "SecretsWorth$Node", name := "nodes", desc := "()I" } : Jvm.MethodName) ({ cls := "SecretsWorth$Node", name := "nodes", desc := "()I" } : Jvm.MethodName)) ∈ lw_all := lw_g (lw_at lw_m5 222 rfl) rfl
theorem q1314 : (Jvm.Cond.code ({ cls := "SecretsWorth$Node", name := "nodes", desc := "()I" } : Jvm.MethodName) prog_4_method_3_code (3 : Nat) (Option.some Jvm.ClassFile.FieldType.int)) ∈ lw_all := lw_g (lw_at lw_m5 223 rfl) rfl
theorem q1315 : (Jvm.Cond.methodLink "SecretsWorth$Node" (22 : Nat) ({ cls := "SecretsWorth$Node", name := "nodes", desc := "()I" } : Jvm.MethodName)) ∈ lw_all := lw_g (lw_at lw_m5 224 rfl) rfl
theorem q1316 : (Jvm.Cond.methodLink "SecretsWorth" (564 : Nat) ({ cls := "SecretsWorth$Node", name := "leaves", desc := "()I" } : Jvm.MethodName)) ∈ lw_all := lw_g (lw_at lw_m5 225 rfl) rfl
theorem q1317 : (Jvm.Cond.instanceMethod ({ cls := "SecretsWorth$Node", name := "leaves", desc := "()I" } : Jvm.MethodName)) ∈ lw_all := lw_g (lw_at lw_m5 226 rfl) rfl
theorem q1318 : (Jvm.Cond.selects "SecretsWorth$Node" ({ cls := "SecretsWorth$Node", name := "leaves", desc := "()I" } : Jvm.MethodName) ({ cls := "SecretsWorth$Node", name := "leaves", desc := "()I" } : Jvm.MethodName)) ∈ lw_all := lw_g (lw_at lw_m5 227 rfl) rfl
theorem q1319 : (Jvm.Cond.code ({ cls := "SecretsWorth$Node", name := "leaves", desc := "()I" } : Jvm.MethodName) prog_4_method_4_code (3 : Nat) (Option.some Jvm.ClassFile.FieldType.int)) ∈ lw_all := lw_g (lw_at lw_m5 228 rfl) rfl
theorem q1320 : (Jvm.Cond.methodLink "SecretsWorth$Node" (26 : Nat) ({ cls := "SecretsWorth$Node", name := "leaves", desc := "()I" } : Jvm.MethodName)) ∈ lw_all := lw_g (lw_at lw_m5 229 rfl) rfl
theorem q1321 : (Jvm.Cond.methodLink "SecretsWorth" (567 : Nat) ({ cls := "SecretsWorth$Node", name := "depth", desc := "()I" } : Jvm.MethodName)) ∈ lw_all := lw_g (lw_at lw_m5 230 rfl) rfl
theorem q1322 : (Jvm.Cond.instanceMethod ({ cls := "SecretsWorth$Node", name := "depth", desc := "()I" } : Jvm.MethodName)) ∈ lw_all := lw_g (lw_at lw_m5 231 rfl) rfl
theorem q1323 : (Jvm.Cond.selects "SecretsWorth$Node" ({ cls := "SecretsWorth$Node", name := "depth", desc := "()I" } : Jvm.MethodName) ({ cls := "SecretsWorth$Node", name := "depth", desc := "()I" } : Jvm.MethodName)) ∈ lw_all := lw_g (lw_at lw_m5 232 rfl) rfl
theorem q1324 : (Jvm.Cond.code ({ cls := "SecretsWorth$Node", name := "depth", desc := "()I" } : Jvm.MethodName) prog_4_method_5_code (3 : Nat) (Option.some Jvm.ClassFile.FieldType.int)) ∈ lw_all := lw_g (lw_at lw_m5 233 rfl) rfl
theorem q1325 : (Jvm.Cond.methodLink "SecretsWorth$Node" (29 : Nat) ({ cls := "SecretsWorth$Node", name := "depth", desc := "()I" } : Jvm.MethodName)) ∈ lw_all := lw_g (lw_at lw_m5 234 rfl) rfl
theorem q1326 : (Jvm.Cond.methodLink "SecretsWorth$Node" (32 : Nat) ({ cls := "java/lang/Math", name := "max", desc := "(II)I" } : Jvm.MethodName)) ∈ lw_all := lw_g (lw_at lw_m5 235 rfl) rfl
theorem q1327 : (Jvm.Cond.methodLink "SecretsWorthLaw" (118 : Nat) ({ cls := "SecretsWorth", name := "worth", desc := "(II)J" } : Jvm.MethodName)) ∈ lw_all := lw_g (lw_at lw_m5 236 rfl) rfl
theorem q1328 : (Jvm.Cond.instanceMethod ({ cls := "SecretsWorth", name := "worth", desc := "(II)J" } : Jvm.MethodName)) ∈ lw_all := lw_g (lw_at lw_m5 237 rfl) rfl
theorem q1329 : (Jvm.Cond.selects "SecretsWorth" ({ cls := "SecretsWorth", name := "worth", desc := "(II)J" } : Jvm.MethodName) ({ cls := "SecretsWorth", name := "worth", desc := "(II)J" } : Jvm.MethodName)) ∈ lw_all := lw_g (lw_at lw_m5 238 rfl) rfl
theorem q1330 : (Jvm.Cond.codeWith ({ cls := "SecretsWorth", name := "worth", desc := "(II)J" } : Jvm.MethodName) prog_1_method_85_code (5 : Nat) (Option.some Jvm.ClassFile.FieldType.long) [((0 : Nat), (65 : Nat), (118 : Nat), (377 : Nat)), ((66 : Nat), (117 : Nat), (118 : Nat), (377 : Nat)), ((0 : Nat), (65 : Nat), (124 : Nat), (1 : Nat)), ((66 : Nat), (117 : Nat), (124 : Nat), (1 : Nat))]) ∈ lw_all := lw_g (lw_at lw_m5 239 rfl) rfl
theorem q1331 : (Jvm.Cond.methodLink "SecretsWorth" (551 : Nat) ({ cls := "SecretsWorth", name := "nodeWorth", desc := "(LSecretsWorth$Node;Z)LSecretsWorth$Ratio;" } : Jvm.MethodName)) ∈ lw_all := lw_g (lw_at lw_m6 0 rfl) rfl
theorem q1332 : (Jvm.Cond.privateMethod ({ cls := "SecretsWorth", name := "nodeWorth", desc := "(LSecretsWorth$Node;Z)LSecretsWorth$Ratio;" } : Jvm.MethodName)) ∈ lw_tbl := lw_at lw_m6 1 rfl
theorem q1333 : (Jvm.Cond.instanceMethod ({ cls := "SecretsWorth", name := "nodeWorth", desc := "(LSecretsWorth$Node;Z)LSecretsWorth$Ratio;" } : Jvm.MethodName)) ∈ lw_all := lw_g (lw_at lw_m6 2 rfl) rfl
theorem q1334 : (Jvm.Cond.code ({ cls := "SecretsWorth", name := "nodeWorth", desc := "(LSecretsWorth$Node;Z)LSecretsWorth$Ratio;" } : Jvm.MethodName) prog_1_method_82_code (6 : Nat) (Option.some (Jvm.ClassFile.FieldType.object "SecretsWorth$Ratio"))) ∈ lw_all := lw_g (lw_at lw_m6 3 rfl) rfl
theorem q1335 : (Jvm.Cond.methodLink "SecretsWorth" (555 : Nat) ({ cls := "SecretsWorth", name := "weightUnder", desc := "(LSecretsWorth$Node;I)LSecretsWorth$Ratio;" } : Jvm.MethodName)) ∈ lw_all := lw_g (lw_at lw_m6 4 rfl) rfl
theorem q1336 : (Jvm.Cond.privateMethod ({ cls := "SecretsWorth", name := "weightUnder", desc := "(LSecretsWorth$Node;I)LSecretsWorth$Ratio;" } : Jvm.MethodName)) ∈ lw_tbl := lw_at lw_m6 5 rfl
theorem q1337 : (Jvm.Cond.instanceMethod ({ cls := "SecretsWorth", name := "weightUnder", desc := "(LSecretsWorth$Node;I)LSecretsWorth$Ratio;" } : Jvm.MethodName)) ∈ lw_all := lw_g (lw_at lw_m6 6 rfl) rfl
theorem q1338 : (Jvm.Cond.code ({ cls := "SecretsWorth", name := "weightUnder", desc := "(LSecretsWorth$Node;I)LSecretsWorth$Ratio;" } : Jvm.MethodName) prog_1_method_81_code (4 : Nat) (Option.some (Jvm.ClassFile.FieldType.object "SecretsWorth$Ratio"))) ∈ lw_all := lw_g (lw_at lw_m6 7 rfl) rfl
theorem q1339 : (Jvm.Cond.methodLink "SecretsWorth" (570 : Nat) ({ cls := "SecretsWorth$Ratio", name := "by", desc := "(LSecretsWorth$Ratio;LSecretsWorth$Ratio;)LSecretsWorth$Ratio;" } : Jvm.MethodName)) ∈ lw_all := lw_g (lw_at lw_m6 8 rfl) rfl
theorem q1340 : (Jvm.Cond.instanceMethod ({ cls := "SecretsWorth$Ratio", name := "by", desc := "(LSecretsWorth$Ratio;LSecretsWorth$Ratio;)LSecretsWorth$Ratio;" } : Jvm.MethodName)) ∈ lw_all := lw_g (lw_at lw_m6 9 rfl) rfl
theorem q1341 : (Jvm.Cond.selects "SecretsWorth$Ratio" ({ cls := "SecretsWorth$Ratio", name := "by", desc := "(LSecretsWorth$Ratio;LSecretsWorth$Ratio;)LSecretsWorth$Ratio;" } : Jvm.MethodName) ({ cls := "SecretsWorth$Ratio", name := "by", desc := "(LSecretsWorth$Ratio;LSecretsWorth$Ratio;)LSecretsWorth$Ratio;" } : Jvm.MethodName)) ∈ lw_all := lw_g (lw_at lw_m6 10 rfl) rfl
theorem q1342 : (Jvm.Cond.code ({ cls := "SecretsWorth$Ratio", name := "by", desc := "(LSecretsWorth$Ratio;LSecretsWorth$Ratio;)LSecretsWorth$Ratio;" } : Jvm.MethodName) prog_5_method_8_code (5 : Nat) (Option.some (Jvm.ClassFile.FieldType.object "SecretsWorth$Ratio"))) ∈ lw_all := lw_g (lw_at lw_m6 11 rfl) rfl
theorem q1343 : (Jvm.Cond.methodLink "SecretsWorthLaw" (122 : Nat) ({ cls := "SecretsWorth", name := "line", desc := "(II)I" } : Jvm.MethodName)) ∈ lw_all := lw_g (lw_at lw_m6 12 rfl) rfl
theorem q1344 : (Jvm.Cond.instanceMethod ({ cls := "SecretsWorth", name := "line", desc := "(II)I" } : Jvm.MethodName)) ∈ lw_all := lw_g (lw_at lw_m6 13 rfl) rfl
theorem q1345 : (Jvm.Cond.selects "SecretsWorth" ({ cls := "SecretsWorth", name := "line", desc := "(II)I" } : Jvm.MethodName) ({ cls := "SecretsWorth", name := "line", desc := "(II)I" } : Jvm.MethodName)) ∈ lw_all := lw_g (lw_at lw_m6 14 rfl) rfl
theorem q1346 : (Jvm.Cond.codeWith ({ cls := "SecretsWorth", name := "line", desc := "(II)I" } : Jvm.MethodName) prog_1_method_90_code (4 : Nat) (Option.some Jvm.ClassFile.FieldType.int) [((0 : Nat), (98 : Nat), (99 : Nat), (377 : Nat)), ((0 : Nat), (98 : Nat), (105 : Nat), (1 : Nat))]) ∈ lw_all := lw_g (lw_at lw_m6 15 rfl) rfl
theorem q1347 : (Jvm.Cond.methodLink "SecretsWorth" (609 : Nat) ({ cls := "SecretsWorth", name := "lineOf", desc := "(II)Ljava/lang/CharSequence;" } : Jvm.MethodName)) ∈ lw_all := lw_g (lw_at lw_m6 16 rfl) rfl
theorem q1348 : (Jvm.Cond.privateMethod ({ cls := "SecretsWorth", name := "lineOf", desc := "(II)Ljava/lang/CharSequence;" } : Jvm.MethodName)) ∈ lw_tbl := lw_at lw_m6 17 rfl
theorem q1349 : (Jvm.Cond.instanceMethod ({ cls := "SecretsWorth", name := "lineOf", desc := "(II)Ljava/lang/CharSequence;" } : Jvm.MethodName)) ∈ lw_all := lw_g (lw_at lw_m6 18 rfl) rfl
theorem q1350 : (Jvm.Cond.code ({ cls := "SecretsWorth", name := "lineOf", desc := "(II)Ljava/lang/CharSequence;" } : Jvm.MethodName) prog_1_method_89_code (3 : Nat) (Option.some (Jvm.ClassFile.FieldType.object "java/lang/CharSequence"))) ∈ lw_all := lw_g (lw_at lw_m6 19 rfl) rfl
theorem q1351 : (Jvm.Cond.methodLink "SecretsWorth" (595 : Nat) ({ cls := "SecretsWorth", name := "pointTold", desc := "(I)Ljava/lang/String;" } : Jvm.MethodName)) ∈ lw_all := lw_g (lw_at lw_m6 20 rfl) rfl
theorem q1352 : (Jvm.Cond.privateMethod ({ cls := "SecretsWorth", name := "pointTold", desc := "(I)Ljava/lang/String;" } : Jvm.MethodName)) ∈ lw_tbl := lw_at lw_m6 21 rfl
theorem q1353 : (Jvm.Cond.instanceMethod ({ cls := "SecretsWorth", name := "pointTold", desc := "(I)Ljava/lang/String;" } : Jvm.MethodName)) ∈ lw_all := lw_g (lw_at lw_m6 22 rfl) rfl
theorem q1354 : (Jvm.Cond.code ({ cls := "SecretsWorth", name := "pointTold", desc := "(I)Ljava/lang/String;" } : Jvm.MethodName) prog_1_method_86_code (4 : Nat) (Option.some (Jvm.ClassFile.FieldType.object "java/lang/String"))) ∈ lw_all := lw_g (lw_at lw_m6 23 rfl) rfl
theorem q1355 : (Jvm.Cond.stringRef "SecretsWorth" (573 : Nat) "(") ∈ lw_tbl := lw_at lw_m6 24 rfl
theorem q1356 : (Jvm.Cond.methodLink "SecretsWorth" (575 : Nat) ({ cls := "java/lang/StringBuilder", name := "append", desc := "(Ljava/lang/String;)Ljava/lang/StringBuilder;" } : Jvm.MethodName)) ∈ lw_all := lw_g (lw_at lw_m6 25 rfl) rfl
theorem q1357 : (Jvm.Cond.instanceMethod ({ cls := "java/lang/StringBuilder", name := "append", desc := "(Ljava/lang/String;)Ljava/lang/StringBuilder;" } : Jvm.MethodName)) ∈ lw_all := lw_g (lw_at lw_m6 26 rfl) rfl
theorem q1358 : (Jvm.Cond.selects "java/lang/StringBuilder" ({ cls := "java/lang/StringBuilder", name := "append", desc := "(Ljava/lang/String;)Ljava/lang/StringBuilder;" } : Jvm.MethodName) ({ cls := "java/lang/StringBuilder", name := "append", desc := "(Ljava/lang/String;)Ljava/lang/StringBuilder;" } : Jvm.MethodName)) ∈ lw_all := lw_g (lw_at lw_m6 27 rfl) rfl
theorem q1359 : (Jvm.Cond.code ({ cls := "java/lang/StringBuilder", name := "append", desc := "(Ljava/lang/String;)Ljava/lang/StringBuilder;" } : Jvm.MethodName) prog_26_method_7_code (2 : Nat) (Option.some (Jvm.ClassFile.FieldType.object "java/lang/StringBuilder"))) ∈ lw_all := lw_g (lw_at lw_m6 28 rfl) rfl
theorem q1360 : (Jvm.Cond.methodLink "java/lang/StringBuilder" (29 : Nat) ({ cls := "java/lang/AbstractStringBuilder", name := "append", desc := "(Ljava/lang/String;)Ljava/lang/AbstractStringBuilder;" } : Jvm.MethodName)) ∈ lw_all := lw_g (lw_at lw_m6 29 rfl) rfl
theorem q1361 : (Jvm.Cond.instanceMethod ({ cls := "java/lang/AbstractStringBuilder", name := "append", desc := "(Ljava/lang/String;)Ljava/lang/AbstractStringBuilder;" } : Jvm.MethodName)) ∈ lw_all := lw_g (lw_at lw_m6 30 rfl) rfl
theorem q1362 : (Jvm.Cond.code ({ cls := "java/lang/AbstractStringBuilder", name := "append", desc := "(Ljava/lang/String;)Ljava/lang/AbstractStringBuilder;" } : Jvm.MethodName) prog_12_method_22_code (3 : Nat) (Option.some (Jvm.ClassFile.FieldType.object "java/lang/AbstractStringBuilder"))) ∈ lw_all := lw_g (lw_at lw_m6 31 rfl) rfl
theorem q1363 : (Jvm.Cond.methodLink "java/lang/AbstractStringBuilder" (204 : Nat) ({ cls := "java/lang/AbstractStringBuilder", name := "appendNull", desc := "()Ljava/lang/AbstractStringBuilder;" } : Jvm.MethodName)) ∈ lw_all := lw_g (lw_at lw_m6 32 rfl) rfl
theorem q1364 : (Jvm.Cond.privateMethod ({ cls := "java/lang/AbstractStringBuilder", name := "appendNull", desc := "()Ljava/lang/AbstractStringBuilder;" } : Jvm.MethodName)) ∈ lw_tbl := lw_at lw_m6 33 rfl
theorem q1365 : (Jvm.Cond.instanceMethod ({ cls := "java/lang/AbstractStringBuilder", name := "appendNull", desc := "()Ljava/lang/AbstractStringBuilder;" } : Jvm.MethodName)) ∈ lw_all := lw_g (lw_at lw_m6 34 rfl) rfl
theorem q1366 : (Jvm.Cond.code ({ cls := "java/lang/AbstractStringBuilder", name := "appendNull", desc := "()Ljava/lang/AbstractStringBuilder;" } : Jvm.MethodName) prog_12_method_26_code (3 : Nat) (Option.some (Jvm.ClassFile.FieldType.object "java/lang/AbstractStringBuilder"))) ∈ lw_all := lw_g (lw_at lw_m6 35 rfl) rfl
theorem q1367 : (Jvm.Cond.methodLink "java/lang/AbstractStringBuilder" (226 : Nat) ({ cls := "java/lang/StringUTF16", name := "putCharsAt", desc := "([BICCCC)I" } : Jvm.MethodName)) ∈ lw_all := lw_g (lw_at lw_m6 36 rfl) rfl
theorem q1368 : (Jvm.Cond.static ({ cls := "java/lang/StringUTF16", name := "putCharsAt", desc := "([BICCCC)I" } : Jvm.MethodName)) ∈ lw_all := lw_g (lw_at lw_m6 37 rfl) rfl
theorem q1369 : (Jvm.Cond.code ({ cls := "java/lang/StringUTF16", name := "putCharsAt", desc := "([BICCCC)I" } : Jvm.MethodName) prog_28_method_81_code (7 : Nat) (Option.some Jvm.ClassFile.FieldType.int)) ∈ lw_all := lw_g (lw_at lw_m6 38 rfl) rfl
theorem q1370 : (Jvm.Cond.methodLink "java/lang/StringUTF16" (96 : Nat) ({ cls := "java/lang/StringUTF16", name := "checkBoundsBeginEnd", desc := "(II[B)V" } : Jvm.MethodName)) ∈ lw_all := lw_g (lw_at lw_m6 39 rfl) rfl
theorem q1371 : (Jvm.Cond.static ({ cls := "java/lang/StringUTF16", name := "checkBoundsBeginEnd", desc := "(II[B)V" } : Jvm.MethodName)) ∈ lw_all := lw_g (lw_at lw_m6 40 rfl) rfl
theorem q1372 : (Jvm.Cond.code ({ cls := "java/lang/StringUTF16", name := "checkBoundsBeginEnd", desc := "(II[B)V" } : Jvm.MethodName) prog_28_method_93_code (3 : Nat) (Option.none : Option Jvm.ClassFile.FieldType)) ∈ lw_all := lw_g (lw_at lw_m6 41 rfl) rfl
theorem q1373 : (Jvm.Cond.methodLink "java/lang/StringUTF16" (241 : Nat) ({ cls := "java/lang/String", name := "checkBoundsBeginEnd", desc := "(III)V" } : Jvm.MethodName)) ∈ lw_all := lw_g (lw_at lw_m6 42 rfl) rfl
theorem q1374 : (Jvm.Cond.static ({ cls := "java/lang/String", name := "checkBoundsBeginEnd", desc := "(III)V" } : Jvm.MethodName)) ∈ lw_all := lw_g (lw_at lw_m6 43 rfl) rfl
theorem q1375 : (Jvm.Cond.code ({ cls := "java/lang/String", name := "checkBoundsBeginEnd", desc := "(III)V" } : Jvm.MethodName) prog_25_method_158_code (3 : Nat) (Option.none : Option Jvm.ClassFile.FieldType)) ∈ lw_all := lw_g (lw_at lw_m6 44 rfl) rfl
theorem q1376 : (Jvm.Cond.methodLink "java/lang/String" (1062 : Nat) ({ cls := "jdk/internal/util/Preconditions", name := "checkFromToIndex", desc := "(IIILjava/util/function/BiFunction;)I" } : Jvm.MethodName)) ∈ lw_all := lw_g (lw_at lw_m6 45 rfl) rfl
theorem q1377 : (Jvm.Cond.static ({ cls := "jdk/internal/util/Preconditions", name := "checkFromToIndex", desc := "(IIILjava/util/function/BiFunction;)I" } : Jvm.MethodName)) ∈ lw_all := lw_g (lw_at lw_m6 46 rfl) rfl
theorem q1378 : (Jvm.Cond.code ({ cls := "jdk/internal/util/Preconditions", name := "checkFromToIndex", desc := "(IIILjava/util/function/BiFunction;)I" } : Jvm.MethodName) prog_35_method_12_code (4 : Nat) (Option.some Jvm.ClassFile.FieldType.int)) ∈ lw_all := lw_g (lw_at lw_m6 47 rfl) rfl
theorem q1379 : (Jvm.Cond.methodLink "java/lang/AbstractStringBuilder" (32 : Nat) ({ cls := "java/lang/String", name := "length", desc := "()I" } : Jvm.MethodName)) ∈ lw_all := lw_g (lw_at lw_m6 48 rfl) rfl
theorem q1380 : (Jvm.Cond.instanceMethod ({ cls := "java/lang/String", name := "length", desc := "()I" } : Jvm.MethodName)) ∈ lw_all := lw_g (lw_at lw_m6 49 rfl) rfl
theorem q1381 : (Jvm.Cond.selects "java/lang/String" ({ cls := "java/lang/String", name := "length", desc := "()I" } : Jvm.MethodName) ({ cls := "java/lang/String", name := "length", desc := "()I" } : Jvm.MethodName)) ∈ lw_all := lw_g (lw_at lw_m6 50 rfl) rfl
theorem q1382 : (Jvm.Cond.code ({ cls := "java/lang/String", name := "length", desc := "()I" } : Jvm.MethodName) prog_25_method_54_code (1 : Nat) (Option.some Jvm.ClassFile.FieldType.int)) ∈ lw_all := lw_g (lw_at lw_m6 51 rfl) rfl
theorem q1383 : (Jvm.Cond.methodLink "java/lang/String" (335 : Nat) ({ cls := "java/lang/String", name := "coder", desc := "()B" } : Jvm.MethodName)) ∈ lw_all := lw_g (lw_at lw_m6 52 rfl) rfl
theorem q1384 : (Jvm.Cond.instanceMethod ({ cls := "java/lang/String", name := "coder", desc := "()B" } : Jvm.MethodName)) ∈ lw_all := lw_g (lw_at lw_m6 53 rfl) rfl
theorem q1385 : (Jvm.Cond.selects "java/lang/String" ({ cls := "java/lang/String", name := "coder", desc := "()B" } : Jvm.MethodName) ({ cls := "java/lang/String", name := "coder", desc := "()B" } : Jvm.MethodName)) ∈ lw_all := lw_g (lw_at lw_m6 54 rfl) rfl
theorem q1386 : (Jvm.Cond.code ({ cls := "java/lang/String", name := "coder", desc := "()B" } : Jvm.MethodName) prog_25_method_152_code (1 : Nat) (Option.some Jvm.ClassFile.FieldType.byte)) ∈ lw_all := lw_g (lw_at lw_m6 55 rfl) rfl
theorem q1387 : (Jvm.Cond.methodLink "java/lang/AbstractStringBuilder" (208 : Nat) ({ cls := "java/lang/AbstractStringBuilder", name := "putStringAt", desc := "(ILjava/lang/String;)V" } : Jvm.MethodName)) ∈ lw_all := lw_g (lw_at lw_m6 56 rfl) rfl
theorem q1388 : (Jvm.Cond.privateMethod ({ cls := "java/lang/AbstractStringBuilder", name := "putStringAt", desc := "(ILjava/lang/String;)V" } : Jvm.MethodName)) ∈ lw_tbl := lw_at lw_m6 57 rfl
theorem q1389 : (Jvm.Cond.instanceMethod ({ cls := "java/lang/AbstractStringBuilder", name := "putStringAt", desc := "(ILjava/lang/String;)V" } : Jvm.MethodName)) ∈ lw_all := lw_g (lw_at lw_m6 58 rfl) rfl
theorem q1390 : (Jvm.Cond.code ({ cls := "java/lang/AbstractStringBuilder", name := "putStringAt", desc := "(ILjava/lang/String;)V" } : Jvm.MethodName) prog_12_method_73_code (3 : Nat) (Option.none : Option Jvm.ClassFile.FieldType)) ∈ lw_all := lw_g (lw_at lw_m6 59 rfl) rfl
theorem q1391 : (Jvm.Cond.methodLink "java/lang/AbstractStringBuilder" (397 : Nat) ({ cls := "java/lang/AbstractStringBuilder", name := "inflateIfNeededFor", desc := "(Ljava/lang/String;)V" } : Jvm.MethodName)) ∈ lw_all := lw_g (lw_at lw_m6 60 rfl) rfl
theorem q1392 : (Jvm.Cond.privateMethod ({ cls := "java/lang/AbstractStringBuilder", name := "inflateIfNeededFor", desc := "(Ljava/lang/String;)V" } : Jvm.MethodName)) ∈ lw_tbl := lw_at lw_m6 61 rfl
theorem q1393 : (Jvm.Cond.instanceMethod ({ cls := "java/lang/AbstractStringBuilder", name := "inflateIfNeededFor", desc := "(Ljava/lang/String;)V" } : Jvm.MethodName)) ∈ lw_all := lw_g (lw_at lw_m6 62 rfl) rfl
theorem q1394 : (Jvm.Cond.code ({ cls := "java/lang/AbstractStringBuilder", name := "inflateIfNeededFor", desc := "(Ljava/lang/String;)V" } : Jvm.MethodName) prog_12_method_71_code (2 : Nat) (Option.none : Option Jvm.ClassFile.FieldType)) ∈ lw_all := lw_g (lw_at lw_m6 63 rfl) rfl
theorem q1395 : (Jvm.Cond.methodLink "java/lang/AbstractStringBuilder" (40 : Nat) ({ cls := "java/lang/String", name := "coder", desc := "()B" } : Jvm.MethodName)) ∈ lw_all := lw_g (lw_at lw_m6 64 rfl) rfl
theorem q1396 : (Jvm.Cond.methodLink "java/lang/AbstractStringBuilder" (399 : Nat) ({ cls := "java/lang/String", name := "getBytes", desc := "([BIB)V" } : Jvm.MethodName)) ∈ lw_all := lw_g (lw_at lw_m6 65 rfl) rfl
theorem q1397 : (Jvm.Cond.instanceMethod ({ cls := "java/lang/String", name := "getBytes", desc := "([BIB)V" } : Jvm.MethodName)) ∈ lw_all := lw_g (lw_at lw_m6 66 rfl) rfl
theorem q1398 : (Jvm.Cond.selects "java/lang/String" ({ cls := "java/lang/String", name := "getBytes", desc := "([BIB)V" } : Jvm.MethodName) ({ cls := "java/lang/String", name := "getBytes", desc := "([BIB)V" } : Jvm.MethodName)) ∈ lw_all := lw_g (lw_at lw_m6 67 rfl) rfl
theorem q1399 : (Jvm.Cond.code ({ cls := "java/lang/String", name := "getBytes", desc := "([BIB)V" } : Jvm.MethodName) prog_25_method_147_code (4 : Nat) (Option.none : Option Jvm.ClassFile.FieldType)) ∈ lw_all := lw_g (lw_at lw_m6 68 rfl) rfl
theorem q1400 : (Jvm.Cond.methodLink "java/lang/String" (212 : Nat) ({ cls := "java/lang/System", name := "arraycopy", desc := "(Ljava/lang/Object;ILjava/lang/Object;II)V" } : Jvm.MethodName)) ∈ lw_all := lw_g (lw_at lw_m6 69 rfl) rfl
theorem q1401 : (Jvm.Cond.methodLink "java/lang/String" (106 : Nat) ({ cls := "java/lang/StringLatin1", name := "inflate", desc := "([BI[BII)V" } : Jvm.MethodName)) ∈ lw_all := lw_g (lw_at lw_m6 70 rfl) rfl
theorem q1402 : (Jvm.Cond.methodLink "SecretsWorth" (578 : Nat) ({ cls := "java/lang/StringBuilder", name := "append", desc := "(I)Ljava/lang/StringBuilder;" } : Jvm.MethodName)) ∈ lw_all := lw_g (lw_at lw_m6 71 rfl) rfl
theorem q1403 : (Jvm.Cond.instanceMethod ({ cls := "java/lang/StringBuilder", name := "append", desc := "(I)Ljava/lang/StringBuilder;" } : Jvm.MethodName)) ∈ lw_all := lw_g (lw_at lw_m6 72 rfl) rfl
theorem q1404 : (Jvm.Cond.selects "java/lang/StringBuilder" ({ cls := "java/lang/StringBuilder", name := "append", desc := "(I)Ljava/lang/StringBuilder;" } : Jvm.MethodName) ({ cls := "java/lang/StringBuilder", name := "append", desc := "(I)Ljava/lang/StringBuilder;" } : Jvm.MethodName)) ∈ lw_all := lw_g (lw_at lw_m6 73 rfl) rfl
theorem q1405 : (Jvm.Cond.code ({ cls := "java/lang/StringBuilder", name := "append", desc := "(I)Ljava/lang/StringBuilder;" } : Jvm.MethodName) prog_26_method_15_code (2 : Nat) (Option.some (Jvm.ClassFile.FieldType.object "java/lang/StringBuilder"))) ∈ lw_all := lw_g (lw_at lw_m6 74 rfl) rfl
theorem q1406 : (Jvm.Cond.methodLink "java/lang/StringBuilder" (53 : Nat) ({ cls := "java/lang/AbstractStringBuilder", name := "append", desc := "(I)Ljava/lang/AbstractStringBuilder;" } : Jvm.MethodName)) ∈ lw_all := lw_g (lw_at lw_m6 75 rfl) rfl
theorem q1407 : (Jvm.Cond.instanceMethod ({ cls := "java/lang/AbstractStringBuilder", name := "append", desc := "(I)Ljava/lang/AbstractStringBuilder;" } : Jvm.MethodName)) ∈ lw_all := lw_g (lw_at lw_m6 76 rfl) rfl
theorem q1408 : (Jvm.Cond.code ({ cls := "java/lang/AbstractStringBuilder", name := "append", desc := "(I)Ljava/lang/AbstractStringBuilder;" } : Jvm.MethodName) prog_12_method_32_code (4 : Nat) (Option.some (Jvm.ClassFile.FieldType.object "java/lang/AbstractStringBuilder"))) ∈ lw_all := lw_g (lw_at lw_m6 77 rfl) rfl
theorem q1409 : (Jvm.Cond.methodLink "java/lang/AbstractStringBuilder" (245 : Nat) ({ cls := "java/lang/Integer", name := "stringSize", desc := "(I)I" } : Jvm.MethodName)) ∈ lw_all := lw_g (lw_at lw_m6 78 rfl) rfl
theorem q1410 : (Jvm.Cond.static ({ cls := "java/lang/Integer", name := "stringSize", desc := "(I)I" } : Jvm.MethodName)) ∈ lw_all := lw_g (lw_at lw_m6 79 rfl) rfl
theorem q1411 : (Jvm.Cond.code ({ cls := "java/lang/Integer", name := "stringSize", desc := "(I)I" } : Jvm.MethodName) prog_19_method_13_code (4 : Nat) (Option.some Jvm.ClassFile.FieldType.int)) ∈ lw_all := lw_g (lw_at lw_m6 80 rfl) rfl
theorem q1412 : (Jvm.Cond.methodLink "java/lang/AbstractStringBuilder" (248 : Nat) ({ cls := "java/lang/Integer", name := "getChars", desc := "(II[B)I" } : Jvm.MethodName)) ∈ lw_all := lw_g (lw_at lw_m6 81 rfl) rfl
theorem q1413 : (Jvm.Cond.static ({ cls := "java/lang/Integer", name := "getChars", desc := "(II[B)I" } : Jvm.MethodName)) ∈ lw_all := lw_g (lw_at lw_m6 82 rfl) rfl
theorem q1414 : (Jvm.Cond.code ({ cls := "java/lang/Integer", name := "getChars", desc := "(II[B)I" } : Jvm.MethodName) prog_19_method_12_code (7 : Nat) (Option.some Jvm.ClassFile.FieldType.int)) ∈ lw_all := lw_g (lw_at lw_m6 83 rfl) rfl
theorem q1415 : (Jvm.Cond.fieldLink "java/lang/Integer" (83 : Nat) "java/lang/Integer" "DigitOnes" "[B") ∈ lw_all := lw_g (lw_at lw_m6 84 rfl) rfl
theorem q1416 : (Jvm.Cond.laysStatic "java/lang/Integer" "DigitOnes" "[B") ∈ lw_tbl := lw_at lw_m6 85 rfl
theorem q1417 : (Jvm.Cond.fieldLink "java/lang/Integer" (87 : Nat) "java/lang/Integer" "DigitTens" "[B") ∈ lw_all := lw_g (lw_at lw_m6 86 rfl) rfl
theorem q1418 : (Jvm.Cond.laysStatic "java/lang/Integer" "DigitTens" "[B") ∈ lw_tbl := lw_at lw_m6 87 rfl
theorem q1419 : (Jvm.Cond.methodLink "java/lang/AbstractStringBuilder" (251 : Nat) ({ cls := "java/lang/StringUTF16", name := "getChars", desc := "(III[B)I" } : Jvm.MethodName)) ∈ lw_all := lw_g (lw_at lw_m6 88 rfl) rfl
theorem q1420 : (Jvm.Cond.static ({ cls := "java/lang/StringUTF16", name := "getChars", desc := "(III[B)I" } : Jvm.MethodName)) ∈ lw_all := lw_g (lw_at lw_m6 89 rfl) rfl
theorem q1421 : (Jvm.Cond.code ({ cls := "java/lang/StringUTF16", name := "getChars", desc := "(III[B)I" } : Jvm.MethodName) prog_28_method_77_code (5 : Nat) (Option.some Jvm.ClassFile.FieldType.int)) ∈ lw_all := lw_g (lw_at lw_m6 90 rfl) rfl
theorem q1422 : (Jvm.Cond.methodLink "java/lang/StringUTF16" (393 : Nat) ({ cls := "java/lang/StringUTF16", name := "getChars", desc := "(II[B)I" } : Jvm.MethodName)) ∈ lw_all := lw_g (lw_at lw_m6 91 rfl) rfl
theorem q1423 : (Jvm.Cond.static ({ cls := "java/lang/StringUTF16", name := "getChars", desc := "(II[B)I" } : Jvm.MethodName)) ∈ lw_all := lw_g (lw_at lw_m6 92 rfl) rfl
theorem q1424 : (Jvm.Cond.code ({ cls := "java/lang/StringUTF16", name := "getChars", desc := "(II[B)I" } : Jvm.MethodName) prog_28_method_89_code (7 : Nat) (Option.some Jvm.ClassFile.FieldType.int)) ∈ lw_all := lw_g (lw_at lw_m6 93 rfl) rfl
theorem q1425 : (Jvm.Cond.fieldLink "java/lang/StringUTF16" (403 : Nat) "java/lang/Integer" "DigitOnes" "[B") ∈ lw_all := lw_g (lw_at lw_m6 94 rfl) rfl
theorem q1426 : (Jvm.Cond.fieldLink "java/lang/StringUTF16" (407 : Nat) "java/lang/Integer" "DigitTens" "[B") ∈ lw_all := lw_g (lw_at lw_m6 95 rfl) rfl
theorem q1427 : (Jvm.Cond.stringRef "SecretsWorth" (581 : Nat) ",") ∈ lw_tbl := lw_at lw_m6 96 rfl
theorem q1428 : (Jvm.Cond.stringRef "SecretsWorth" (583 : Nat) ")=") ∈ lw_tbl := lw_at lw_m6 97 rfl
theorem q1429 : (Jvm.Cond.interfaceEntry "SecretsWorth" (585 : Nat)) ∈ lw_tbl := lw_at lw_m6 98 rfl
theorem q1430 : (Jvm.Cond.methodLink "SecretsWorth" (585 : Nat) ({ cls := "SecretsWorth$Says", name := "behind", desc := "(Ljava/lang/String;)Ljava/lang/String;" } : Jvm.MethodName)) ∈ lw_all := lw_g (lw_at lw_m6 99 rfl) rfl
theorem q1431 : (Jvm.Cond.interfaceMethod "SecretsWorth$Says" "SecretsWorth$Says" "behind" "(Ljava/lang/String;)Ljava/lang/String;") ∈ lw_tbl := lw_at lw_m6 100 rfl
theorem q1432 : (Jvm.Cond.declares ({ cls := "SecretsWorth$Says", name := "behind", desc := "(Ljava/lang/String;)Ljava/lang/String;" } : Jvm.MethodName)) ∈ lw_tbl := lw_at lw_m6 101 rfl
theorem q1433 : (Jvm.Cond.castable "SecretsWorth$Node" "SecretsWorth$Says") ∈ lw_tbl := lw_at lw_m6 102 rfl
theorem q1434 : (Jvm.Cond.unhidden "SecretsWorth$Node" "behind" "(Ljava/lang/String;)Ljava/lang/String;") ∈ lw_tbl := lw_at lw_m6 103 rfl
theorem q1435 : (Jvm.Cond.instanceMethod ({ cls := "SecretsWorth$Says", name := "behind", desc := "(Ljava/lang/String;)Ljava/lang/String;" } : Jvm.MethodName)) ∈ lw_all := lw_g (lw_at lw_m6 104 rfl) rfl
theorem q1436 : (Jvm.Cond.publicMethod ({ cls := "SecretsWorth$Says", name := "behind", desc := "(Ljava/lang/String;)Ljava/lang/String;" } : Jvm.MethodName)) ∈ lw_tbl := lw_at lw_m6 105 rfl
theorem q1437 : (Jvm.Cond.code ({ cls := "SecretsWorth$Says", name := "behind", desc := "(Ljava/lang/String;)Ljava/lang/String;" } : Jvm.MethodName) prog_6_method_2_code (2 : Nat) (Option.some (Jvm.ClassFile.FieldType.object "java/lang/String"))) ∈ lw_all := lw_g (lw_at lw_m6 106 rfl) rfl
theorem q1438 : (Jvm.Cond.classLink "SecretsWorth$Says" (1 : Nat) "java/lang/StringBuilder") ∈ lw_all := lw_g (lw_at lw_m6 107 rfl) rfl
theorem q1439 : (Jvm.Cond.methodLink "SecretsWorth$Says" (3 : Nat) ({ cls := "java/lang/StringBuilder", name := "<init>", desc := "()V" } : Jvm.MethodName)) ∈ lw_all := lw_g (lw_at lw_m6 108 rfl) rfl
theorem q1440 : (Jvm.Cond.methodLink "SecretsWorth$Says" (7 : Nat) ({ cls := "java/lang/StringBuilder", name := "append", desc := "(Ljava/lang/String;)Ljava/lang/StringBuilder;" } : Jvm.MethodName)) ∈ lw_all := lw_g (lw_at lw_m6 109 rfl) rfl
theorem q1441 : (Jvm.Cond.interfaceEntry "SecretsWorth$Says" (11 : Nat)) ∈ lw_tbl := lw_at lw_m6 110 rfl
theorem q1442 : (Jvm.Cond.methodLink "SecretsWorth$Says" (11 : Nat) ({ cls := "SecretsWorth$Says", name := "told", desc := "()Ljava/lang/String;" } : Jvm.MethodName)) ∈ lw_all := lw_g (lw_at lw_m6 111 rfl) rfl
theorem q1443 : (Jvm.Cond.interfaceMethod "SecretsWorth$Says" "SecretsWorth$Says" "told" "()Ljava/lang/String;") ∈ lw_tbl := lw_at lw_m6 112 rfl
theorem q1444 : (Jvm.Cond.declares ({ cls := "SecretsWorth$Says", name := "told", desc := "()Ljava/lang/String;" } : Jvm.MethodName)) ∈ lw_tbl := lw_at lw_m6 113 rfl
theorem q1445 : (Jvm.Cond.selects "SecretsWorth$Node" ({ cls := "SecretsWorth$Says", name := "told", desc := "()Ljava/lang/String;" } : Jvm.MethodName) ({ cls := "SecretsWorth$Node", name := "told", desc := "()Ljava/lang/String;" } : Jvm.MethodName)) ∈ lw_all := lw_g (lw_at lw_m6 114 rfl) rfl
theorem q1446 : (Jvm.Cond.unhidden "SecretsWorth$Node" "told" "()Ljava/lang/String;") ∈ lw_tbl := lw_at lw_m6 115 rfl
theorem q1447 : (Jvm.Cond.instanceMethod ({ cls := "SecretsWorth$Node", name := "told", desc := "()Ljava/lang/String;" } : Jvm.MethodName)) ∈ lw_all := lw_g (lw_at lw_m6 116 rfl) rfl
theorem q1448 : (Jvm.Cond.publicMethod ({ cls := "SecretsWorth$Node", name := "told", desc := "()Ljava/lang/String;" } : Jvm.MethodName)) ∈ lw_tbl := lw_at lw_m6 117 rfl
theorem q1449 : (Jvm.Cond.code ({ cls := "SecretsWorth$Node", name := "told", desc := "()Ljava/lang/String;" } : Jvm.MethodName) prog_4_method_6_code (4 : Nat) (Option.some (Jvm.ClassFile.FieldType.object "java/lang/String"))) ∈ lw_all := lw_g (lw_at lw_m6 118 rfl) rfl
theorem q1450 : (Jvm.Cond.classLink "SecretsWorth$Node" (38 : Nat) "java/lang/StringBuilder") ∈ lw_all := lw_g (lw_at lw_m6 119 rfl) rfl
theorem q1451 : (Jvm.Cond.methodLink "SecretsWorth$Node" (40 : Nat) ({ cls := "java/lang/StringBuilder", name := "<init>", desc := "()V" } : Jvm.MethodName)) ∈ lw_all := lw_g (lw_at lw_m6 120 rfl) rfl
theorem q1452 : (Jvm.Cond.methodLink "SecretsWorth$Node" (41 : Nat) ({ cls := "java/lang/StringBuilder", name := "append", desc := "(I)Ljava/lang/StringBuilder;" } : Jvm.MethodName)) ∈ lw_all := lw_g (lw_at lw_m6 121 rfl) rfl
theorem q1453 : (Jvm.Cond.stringRef "SecretsWorth$Node" (48 : Nat) " stay ") ∈ lw_tbl := lw_at lw_m6 122 rfl
theorem q1454 : (Jvm.Cond.methodLink "SecretsWorth$Node" (50 : Nat) ({ cls := "java/lang/StringBuilder", name := "append", desc := "(Ljava/lang/String;)Ljava/lang/StringBuilder;" } : Jvm.MethodName)) ∈ lw_all := lw_g (lw_at lw_m6 123 rfl) rfl
theorem q1455 : (Jvm.Cond.stringRef "SecretsWorth$Node" (53 : Nat) "[") ∈ lw_tbl := lw_at lw_m6 124 rfl
theorem q1456 : (Jvm.Cond.stringRef "SecretsWorth$Node" (55 : Nat) ",") ∈ lw_tbl := lw_at lw_m6 125 rfl
theorem q1457 : (Jvm.Cond.interfaceEntry "SecretsWorth$Node" (57 : Nat)) ∈ lw_tbl := lw_at lw_m6 126 rfl
theorem q1458 : (Jvm.Cond.methodLink "SecretsWorth$Node" (57 : Nat) ({ cls := "SecretsWorth$Says", name := "behind", desc := "(Ljava/lang/String;)Ljava/lang/String;" } : Jvm.MethodName)) ∈ lw_all := lw_g (lw_at lw_m6 127 rfl) rfl
theorem q1459 : (Jvm.Cond.castable "SecretsWorth$Ratio" "SecretsWorth$Says") ∈ lw_tbl := lw_at lw_m6 128 rfl
theorem q1460 : (Jvm.Cond.unhidden "SecretsWorth$Ratio" "behind" "(Ljava/lang/String;)Ljava/lang/String;") ∈ lw_tbl := lw_at lw_m6 129 rfl
theorem q1461 : (Jvm.Cond.methodLink "SecretsWorth$Node" (63 : Nat) ({ cls := "java/lang/StringBuilder", name := "toString", desc := "()Ljava/lang/String;" } : Jvm.MethodName)) ∈ lw_all := lw_g (lw_at lw_m6 130 rfl) rfl
theorem q1462 : (Jvm.Cond.methodLink "SecretsWorth$Node" (67 : Nat) ({ cls := "java/lang/StringBuilder", name := "append", desc := "(Ljava/lang/Object;)Ljava/lang/StringBuilder;" } : Jvm.MethodName)) ∈ lw_all := lw_g (lw_at lw_m6 131 rfl) rfl
theorem q1463 : (Jvm.Cond.instanceMethod ({ cls := "java/lang/StringBuilder", name := "append", desc := "(Ljava/lang/Object;)Ljava/lang/StringBuilder;" } : Jvm.MethodName)) ∈ lw_all := lw_g (lw_at lw_m6 132 rfl) rfl
theorem q1464 : (Jvm.Cond.selects "java/lang/StringBuilder" ({ cls := "java/lang/StringBuilder", name := "append", desc := "(Ljava/lang/Object;)Ljava/lang/StringBuilder;" } : Jvm.MethodName) ({ cls := "java/lang/StringBuilder", name := "append", desc := "(Ljava/lang/Object;)Ljava/lang/StringBuilder;" } : Jvm.MethodName)) ∈ lw_all := lw_g (lw_at lw_m6 133 rfl) rfl
theorem q1465 : (Jvm.Cond.code ({ cls := "java/lang/StringBuilder", name := "append", desc := "(Ljava/lang/Object;)Ljava/lang/StringBuilder;" } : Jvm.MethodName) prog_26_method_6_code (2 : Nat) (Option.some (Jvm.ClassFile.FieldType.object "java/lang/StringBuilder"))) ∈ lw_all := lw_g (lw_at lw_m6 134 rfl) rfl
theorem q1466 : (Jvm.Cond.methodLink "java/lang/StringBuilder" (17 : Nat) ({ cls := "java/lang/String", name := "valueOf", desc := "(Ljava/lang/Object;)Ljava/lang/String;" } : Jvm.MethodName)) ∈ lw_all := lw_g (lw_at lw_m6 135 rfl) rfl
theorem q1467 : (Jvm.Cond.static ({ cls := "java/lang/String", name := "valueOf", desc := "(Ljava/lang/Object;)Ljava/lang/String;" } : Jvm.MethodName)) ∈ lw_all := lw_g (lw_at lw_m6 136 rfl) rfl
theorem q1468 : (Jvm.Cond.code ({ cls := "java/lang/String", name := "valueOf", desc := "(Ljava/lang/Object;)Ljava/lang/String;" } : Jvm.MethodName) prog_25_method_133_code (1 : Nat) (Option.some (Jvm.ClassFile.FieldType.object "java/lang/String"))) ∈ lw_all := lw_g (lw_at lw_m6 137 rfl) rfl
theorem q1469 : (Jvm.Cond.stringRef "java/lang/String" (1005 : Nat) "null") ∈ lw_tbl := lw_at lw_m6 138 rfl
theorem q1470 : (Jvm.Cond.declares ({ cls := "java/lang/Object", name := "toString", desc := "()Ljava/lang/String;" } : Jvm.MethodName)) ∈ lw_tbl := lw_at lw_m6 139 rfl
theorem q1471 : (Jvm.Cond.methodLink "java/lang/String" (1007 : Nat) ({ cls := "java/lang/Object", name := "toString", desc := "()Ljava/lang/String;" } : Jvm.MethodName)) ∈ lw_all := lw_g (lw_at lw_m6 140 rfl) rfl
theorem q1472 : (Jvm.Cond.instanceMethod ({ cls := "java/lang/Object", name := "toString", desc := "()Ljava/lang/String;" } : Jvm.MethodName)) ∈ lw_all := lw_g (lw_at lw_m6 141 rfl) rfl
theorem q1473 : (Jvm.Cond.sameMethod "java/lang/Object" "java/lang/Object" "toString" "()Ljava/lang/String;") ∈ lw_all := lw_g (lw_at lw_m6 142 rfl) rfl
theorem q1474 : (Jvm.Cond.selects "SecretsWorth" ({ cls := "java/lang/Object", name := "toString", desc := "()Ljava/lang/String;" } : Jvm.MethodName) ({ cls := "java/lang/Object", name := "toString", desc := "()Ljava/lang/String;" } : Jvm.MethodName)) ∈ lw_all := lw_g (lw_at lw_m6 143 rfl) rfl
theorem q1475 : (Jvm.Cond.selects "SecretsWorth$Fault" ({ cls := "java/lang/Object", name := "toString", desc := "()Ljava/lang/String;" } : Jvm.MethodName) ({ cls := "java/lang/Throwable", name := "toString", desc := "()Ljava/lang/String;" } : Jvm.MethodName)) ∈ lw_all := lw_g (lw_at lw_m6 144 rfl) rfl
theorem q1476 : (Jvm.Cond.instanceMethod ({ cls := "java/lang/Throwable", name := "toString", desc := "()Ljava/lang/String;" } : Jvm.MethodName)) ∈ lw_all := lw_g (lw_at lw_m6 145 rfl) rfl
theorem q1477 : (Jvm.Cond.code ({ cls := "java/lang/Throwable", name := "toString", desc := "()Ljava/lang/String;" } : Jvm.MethodName) prog_31_method_11_code (3 : Nat) (Option.some (Jvm.ClassFile.FieldType.object "java/lang/String"))) ∈ lw_all := lw_g (lw_at lw_m6 146 rfl) rfl
theorem q1478 : (Jvm.Cond.methodLink "java/lang/Throwable" (69 : Nat) ({ cls := "java/lang/Object", name := "getClass", desc := "()Ljava/lang/Class;" } : Jvm.MethodName)) ∈ lw_all := lw_g (lw_at lw_m6 147 rfl) rfl
theorem q1479 : (Jvm.Cond.instanceMethod ({ cls := "java/lang/Object", name := "getClass", desc := "()Ljava/lang/Class;" } : Jvm.MethodName)) ∈ lw_all := lw_g (lw_at lw_m6 148 rfl) rfl
theorem q1480 : (Jvm.Cond.sameMethod "java/lang/Object" "java/lang/Object" "getClass" "()Ljava/lang/Class;") ∈ lw_all := lw_g (lw_at lw_m6 149 rfl) rfl
theorem q1481 : (Jvm.Cond.selects "SecretsWorth" ({ cls := "java/lang/Object", name := "getClass", desc := "()Ljava/lang/Class;" } : Jvm.MethodName) ({ cls := "java/lang/Object", name := "getClass", desc := "()Ljava/lang/Class;" } : Jvm.MethodName)) ∈ lw_all := lw_g (lw_at lw_m6 150 rfl) rfl
theorem q1482 : (Jvm.Cond.selects "SecretsWorth$Fault" ({ cls := "java/lang/Object", name := "getClass", desc := "()Ljava/lang/Class;" } : Jvm.MethodName) ({ cls := "java/lang/Object", name := "getClass", desc := "()Ljava/lang/Class;" } : Jvm.MethodName)) ∈ lw_all := lw_g (lw_at lw_m6 151 rfl) rfl
theorem q1483 : (Jvm.Cond.selects "SecretsWorth$House" ({ cls := "java/lang/Object", name := "getClass", desc := "()Ljava/lang/Class;" } : Jvm.MethodName) ({ cls := "java/lang/Object", name := "getClass", desc := "()Ljava/lang/Class;" } : Jvm.MethodName)) ∈ lw_all := lw_g (lw_at lw_m6 152 rfl) rfl
theorem q1484 : (Jvm.Cond.selects "SecretsWorth$Node" ({ cls := "java/lang/Object", name := "getClass", desc := "()Ljava/lang/Class;" } : Jvm.MethodName) ({ cls := "java/lang/Object", name := "getClass", desc := "()Ljava/lang/Class;" } : Jvm.MethodName)) ∈ lw_all := lw_g (lw_at lw_m6 153 rfl) rfl
theorem q1485 : (Jvm.Cond.selects "SecretsWorth$Ratio" ({ cls := "java/lang/Object", name := "getClass", desc := "()Ljava/lang/Class;" } : Jvm.MethodName) ({ cls := "java/lang/Object", name := "getClass", desc := "()Ljava/lang/Class;" } : Jvm.MethodName)) ∈ lw_all := lw_g (lw_at lw_m6 154 rfl) rfl
theorem q1486 : (Jvm.Cond.selects "SecretsWorth$Sheet" ({ cls := "java/lang/Object", name := "getClass", desc := "()Ljava/lang/Class;" } : Jvm.MethodName) ({ cls := "java/lang/Object", name := "getClass", desc := "()Ljava/lang/Class;" } : Jvm.MethodName)) ∈ lw_all := lw_g (lw_at lw_m6 155 rfl) rfl
theorem q1487 : (Jvm.Cond.selects "SecretsWorth$Was" ({ cls := "java/lang/Object", name := "getClass", desc := "()Ljava/lang/Class;" } : Jvm.MethodName) ({ cls := "java/lang/Object", name := "getClass", desc := "()Ljava/lang/Class;" } : Jvm.MethodName)) ∈ lw_all := lw_g (lw_at lw_m6 156 rfl) rfl
theorem q1488 : (Jvm.Cond.selects "SecretsWorth$Wrong" ({ cls := "java/lang/Object", name := "getClass", desc := "()Ljava/lang/Class;" } : Jvm.MethodName) ({ cls := "java/lang/Object", name := "getClass", desc := "()Ljava/lang/Class;" } : Jvm.MethodName)) ∈ lw_all := lw_g (lw_at lw_m6 157 rfl) rfl
theorem q1489 : (Jvm.Cond.selects "SecretsWorthModel" ({ cls := "java/lang/Object", name := "getClass", desc := "()Ljava/lang/Class;" } : Jvm.MethodName) ({ cls := "java/lang/Object", name := "getClass", desc := "()Ljava/lang/Class;" } : Jvm.MethodName)) ∈ lw_all := lw_g (lw_at lw_m6 158 rfl) rfl
theorem q1490 : (Jvm.Cond.selects "java/lang/ArithmeticException" ({ cls := "java/lang/Object", name := "getClass", desc := "()Ljava/lang/Class;" } : Jvm.MethodName) ({ cls := "java/lang/Object", name := "getClass", desc := "()Ljava/lang/Class;" } : Jvm.MethodName)) ∈ lw_all := lw_g (lw_at lw_m6 159 rfl) rfl
theorem q1491 : (Jvm.Cond.selects "java/lang/ArrayIndexOutOfBoundsException" ({ cls := "java/lang/Object", name := "getClass", desc := "()Ljava/lang/Class;" } : Jvm.MethodName) ({ cls := "java/lang/Object", name := "getClass", desc := "()Ljava/lang/Class;" } : Jvm.MethodName)) ∈ lw_all := lw_g (lw_at lw_m6 160 rfl) rfl
theorem q1492 : (Jvm.Cond.selects "java/lang/NullPointerException" ({ cls := "java/lang/Object", name := "getClass", desc := "()Ljava/lang/Class;" } : Jvm.MethodName) ({ cls := "java/lang/Object", name := "getClass", desc := "()Ljava/lang/Class;" } : Jvm.MethodName)) ∈ lw_all := lw_g (lw_at lw_m6 161 rfl) rfl
theorem q1493 : (Jvm.Cond.selects "java/lang/String" ({ cls := "java/lang/Object", name := "getClass", desc := "()Ljava/lang/Class;" } : Jvm.MethodName) ({ cls := "java/lang/Object", name := "getClass", desc := "()Ljava/lang/Class;" } : Jvm.MethodName)) ∈ lw_all := lw_g (lw_at lw_m6 162 rfl) rfl
theorem q1494 : (Jvm.Cond.selects "java/lang/StringBuilder" ({ cls := "java/lang/Object", name := "getClass", desc := "()Ljava/lang/Class;" } : Jvm.MethodName) ({ cls := "java/lang/Object", name := "getClass", desc := "()Ljava/lang/Class;" } : Jvm.MethodName)) ∈ lw_all := lw_g (lw_at lw_m6 163 rfl) rfl
theorem q1495 : (Jvm.Cond.selects "java/lang/System$2" ({ cls := "java/lang/Object", name := "getClass", desc := "()Ljava/lang/Class;" } : Jvm.MethodName) ({ cls := "java/lang/Object", name := "getClass", desc := "()Ljava/lang/Class;" } : Jvm.MethodName)) ∈ lw_all := lw_g (lw_at lw_m6 164 rfl) rfl
theorem q1496 : (Jvm.Cond.native ({ cls := "java/lang/Object", name := "getClass", desc := "()Ljava/lang/Class;" } : Jvm.MethodName)) ∈ lw_all := lw_g (lw_at lw_m6 165 rfl) rfl
theorem q1497 : (Jvm.Cond.methodLink "java/lang/Throwable" (78 : Nat) ({ cls := "java/lang/Throwable", name := "getLocalizedMessage", desc := "()Ljava/lang/String;" } : Jvm.MethodName)) ∈ lw_all := lw_g (lw_at lw_m6 166 rfl) rfl
theorem q1498 : (Jvm.Cond.instanceMethod ({ cls := "java/lang/Throwable", name := "getLocalizedMessage", desc := "()Ljava/lang/String;" } : Jvm.MethodName)) ∈ lw_all := lw_g (lw_at lw_m6 167 rfl) rfl
theorem q1499 : (Jvm.Cond.sameMethod "java/lang/Throwable" "java/lang/Throwable" "getLocalizedMessage" "()Ljava/lang/String;") ∈ lw_all := lw_g (lw_at lw_m6 168 rfl) rfl
theorem q1500 : (Jvm.Cond.selects "SecretsWorth$Fault" ({ cls := "java/lang/Throwable", name := "getLocalizedMessage", desc := "()Ljava/lang/String;" } : Jvm.MethodName) ({ cls := "java/lang/Throwable", name := "getLocalizedMessage", desc := "()Ljava/lang/String;" } : Jvm.MethodName)) ∈ lw_all := lw_g (lw_at lw_m6 169 rfl) rfl
theorem q1501 : (Jvm.Cond.selects "SecretsWorth$Wrong" ({ cls := "java/lang/Throwable", name := "getLocalizedMessage", desc := "()Ljava/lang/String;" } : Jvm.MethodName) ({ cls := "java/lang/Throwable", name := "getLocalizedMessage", desc := "()Ljava/lang/String;" } : Jvm.MethodName)) ∈ lw_all := lw_g (lw_at lw_m6 170 rfl) rfl
theorem q1502 : (Jvm.Cond.selects "java/lang/ArithmeticException" ({ cls := "java/lang/Throwable", name := "getLocalizedMessage", desc := "()Ljava/lang/String;" } : Jvm.MethodName) ({ cls := "java/lang/Throwable", name := "getLocalizedMessage", desc := "()Ljava/lang/String;" } : Jvm.MethodName)) ∈ lw_all := lw_g (lw_at lw_m6 171 rfl) rfl
theorem q1503 : (Jvm.Cond.selects "java/lang/ArrayIndexOutOfBoundsException" ({ cls := "java/lang/Throwable", name := "getLocalizedMessage", desc := "()Ljava/lang/String;" } : Jvm.MethodName) ({ cls := "java/lang/Throwable", name := "getLocalizedMessage", desc := "()Ljava/lang/String;" } : Jvm.MethodName)) ∈ lw_all := lw_g (lw_at lw_m6 172 rfl) rfl
theorem q1504 : (Jvm.Cond.selects "java/lang/NullPointerException" ({ cls := "java/lang/Throwable", name := "getLocalizedMessage", desc := "()Ljava/lang/String;" } : Jvm.MethodName) ({ cls := "java/lang/Throwable", name := "getLocalizedMessage", desc := "()Ljava/lang/String;" } : Jvm.MethodName)) ∈ lw_all := lw_g (lw_at lw_m6 173 rfl) rfl
theorem q1505 : (Jvm.Cond.code ({ cls := "java/lang/Throwable", name := "getLocalizedMessage", desc := "()Ljava/lang/String;" } : Jvm.MethodName) prog_31_method_7_code (1 : Nat) (Option.some (Jvm.ClassFile.FieldType.object "java/lang/String"))) ∈ lw_all := lw_g (lw_at lw_m6 174 rfl) rfl
theorem q1506 : (Jvm.Cond.methodLink "java/lang/Throwable" (39 : Nat) ({ cls := "java/lang/Throwable", name := "getMessage", desc := "()Ljava/lang/String;" } : Jvm.MethodName)) ∈ lw_all := lw_g (lw_at lw_m6 175 rfl) rfl
theorem q1507 : (Jvm.Cond.instanceMethod ({ cls := "java/lang/Throwable", name := "getMessage", desc := "()Ljava/lang/String;" } : Jvm.MethodName)) ∈ lw_all := lw_g (lw_at lw_m6 176 rfl) rfl
theorem q1508 : (Jvm.Cond.sameMethod "java/lang/Throwable" "java/lang/Throwable" "getMessage" "()Ljava/lang/String;") ∈ lw_all := lw_g (lw_at lw_m6 177 rfl) rfl
theorem q1509 : (Jvm.Cond.selects "SecretsWorth$Fault" ({ cls := "java/lang/Throwable", name := "getMessage", desc := "()Ljava/lang/String;" } : Jvm.MethodName) ({ cls := "java/lang/Throwable", name := "getMessage", desc := "()Ljava/lang/String;" } : Jvm.MethodName)) ∈ lw_all := lw_g (lw_at lw_m6 178 rfl) rfl
theorem q1510 : (Jvm.Cond.selects "SecretsWorth$Wrong" ({ cls := "java/lang/Throwable", name := "getMessage", desc := "()Ljava/lang/String;" } : Jvm.MethodName) ({ cls := "java/lang/Throwable", name := "getMessage", desc := "()Ljava/lang/String;" } : Jvm.MethodName)) ∈ lw_all := lw_g (lw_at lw_m6 179 rfl) rfl
theorem q1511 : (Jvm.Cond.selects "java/lang/ArithmeticException" ({ cls := "java/lang/Throwable", name := "getMessage", desc := "()Ljava/lang/String;" } : Jvm.MethodName) ({ cls := "java/lang/Throwable", name := "getMessage", desc := "()Ljava/lang/String;" } : Jvm.MethodName)) ∈ lw_all := lw_g (lw_at lw_m6 180 rfl) rfl
theorem q1512 : (Jvm.Cond.selects "java/lang/ArrayIndexOutOfBoundsException" ({ cls := "java/lang/Throwable", name := "getMessage", desc := "()Ljava/lang/String;" } : Jvm.MethodName) ({ cls := "java/lang/Throwable", name := "getMessage", desc := "()Ljava/lang/String;" } : Jvm.MethodName)) ∈ lw_all := lw_g (lw_at lw_m6 181 rfl) rfl
theorem q1513 : (Jvm.Cond.selects "java/lang/NullPointerException" ({ cls := "java/lang/Throwable", name := "getMessage", desc := "()Ljava/lang/String;" } : Jvm.MethodName) ({ cls := "java/lang/NullPointerException", name := "getMessage", desc := "()Ljava/lang/String;" } : Jvm.MethodName)) ∈ lw_all := lw_g (lw_at lw_m6 182 rfl) rfl
theorem q1514 : (Jvm.Cond.instanceMethod ({ cls := "java/lang/NullPointerException", name := "getMessage", desc := "()Ljava/lang/String;" } : Jvm.MethodName)) ∈ lw_all := lw_g (lw_at lw_m6 183 rfl) rfl
theorem q1515 : (Jvm.Cond.codeWith ({ cls := "java/lang/NullPointerException", name := "getMessage", desc := "()Ljava/lang/String;" } : Jvm.MethodName) prog_22_method_4_code (4 : Nat) (Option.some (Jvm.ClassFile.FieldType.object "java/lang/String")) [((13 : Nat), (40 : Nat), (41 : Nat), (0 : Nat)), ((41 : Nat), (44 : Nat), (41 : Nat), (0 : Nat))]) ∈ lw_all := lw_g (lw_at lw_m6 184 rfl) rfl
theorem q1516 : (Jvm.Cond.methodLink "java/lang/NullPointerException" (28 : Nat) ({ cls := "java/lang/RuntimeException", name := "getMessage", desc := "()Ljava/lang/String;" } : Jvm.MethodName)) ∈ lw_all := lw_g (lw_at lw_m6 185 rfl) rfl
theorem q1517 : (Jvm.Cond.sameMethod "java/lang/RuntimeException" "java/lang/Throwable" "getMessage" "()Ljava/lang/String;") ∈ lw_all := lw_g (lw_at lw_m6 186 rfl) rfl
theorem q1518 : (Jvm.Cond.declares ({ cls := "java/lang/Throwable", name := "getMessage", desc := "()Ljava/lang/String;" } : Jvm.MethodName)) ∈ lw_tbl := lw_at lw_m6 187 rfl
theorem q1519 : (Jvm.Cond.code ({ cls := "java/lang/Throwable", name := "getMessage", desc := "()Ljava/lang/String;" } : Jvm.MethodName) prog_31_method_6_code (1 : Nat) (Option.some (Jvm.ClassFile.FieldType.object "java/lang/String"))) ∈ lw_all := lw_g (lw_at lw_m6 188 rfl) rfl
theorem q1520 : (Jvm.Cond.classLink "java/lang/Throwable" (44 : Nat) "java/lang/StringBuilder") ∈ lw_all := lw_g (lw_at lw_m6 189 rfl) rfl
theorem q1521 : (Jvm.Cond.methodLink "java/lang/Throwable" (46 : Nat) ({ cls := "java/lang/StringBuilder", name := "<init>", desc := "()V" } : Jvm.MethodName)) ∈ lw_all := lw_g (lw_at lw_m6 190 rfl) rfl
theorem q1522 : (Jvm.Cond.methodLink "java/lang/Throwable" (49 : Nat) ({ cls := "java/lang/StringBuilder", name := "append", desc := "(Ljava/lang/String;)Ljava/lang/StringBuilder;" } : Jvm.MethodName)) ∈ lw_all := lw_g (lw_at lw_m6 191 rfl) rfl
theorem q1523 : (Jvm.Cond.stringRef "java/lang/Throwable" (81 : Nat) ": ") ∈ lw_tbl := lw_at lw_m6 192 rfl
theorem q1524 : (Jvm.Cond.methodLink "java/lang/Throwable" (60 : Nat) ({ cls := "java/lang/StringBuilder", name := "toString", desc := "()Ljava/lang/String;" } : Jvm.MethodName)) ∈ lw_all := lw_g (lw_at lw_m6 193 rfl) rfl
theorem q1525 : (Jvm.Cond.selects "SecretsWorth$House" ({ cls := "java/lang/Object", name := "toString", desc := "()Ljava/lang/String;" } : Jvm.MethodName) ({ cls := "java/lang/Object", name := "toString", desc := "()Ljava/lang/String;" } : Jvm.MethodName)) ∈ lw_all := lw_g (lw_at lw_m6 194 rfl) rfl
theorem q1526 : (Jvm.Cond.selects "SecretsWorth$Node" ({ cls := "java/lang/Object", name := "toString", desc := "()Ljava/lang/String;" } : Jvm.MethodName) ({ cls := "java/lang/Object", name := "toString", desc := "()Ljava/lang/String;" } : Jvm.MethodName)) ∈ lw_all := lw_g (lw_at lw_m6 195 rfl) rfl
theorem q1527 : (Jvm.Cond.selects "SecretsWorth$Ratio" ({ cls := "java/lang/Object", name := "toString", desc := "()Ljava/lang/String;" } : Jvm.MethodName) ({ cls := "java/lang/Object", name := "toString", desc := "()Ljava/lang/String;" } : Jvm.MethodName)) ∈ lw_all := lw_g (lw_at lw_m6 196 rfl) rfl
theorem q1528 : (Jvm.Cond.selects "SecretsWorth$Sheet" ({ cls := "java/lang/Object", name := "toString", desc := "()Ljava/lang/String;" } : Jvm.MethodName) ({ cls := "java/lang/Object", name := "toString", desc := "()Ljava/lang/String;" } : Jvm.MethodName)) ∈ lw_all := lw_g (lw_at lw_m6 197 rfl) rfl
theorem q1529 : (Jvm.Cond.selects "SecretsWorth$Was" ({ cls := "java/lang/Object", name := "toString", desc := "()Ljava/lang/String;" } : Jvm.MethodName) ({ cls := "java/lang/Object", name := "toString", desc := "()Ljava/lang/String;" } : Jvm.MethodName)) ∈ lw_all := lw_g (lw_at lw_m6 198 rfl) rfl
theorem q1530 : (Jvm.Cond.selects "SecretsWorth$Wrong" ({ cls := "java/lang/Object", name := "toString", desc := "()Ljava/lang/String;" } : Jvm.MethodName) ({ cls := "java/lang/Throwable", name := "toString", desc := "()Ljava/lang/String;" } : Jvm.MethodName)) ∈ lw_all := lw_g (lw_at lw_m6 199 rfl) rfl
theorem q1531 : (Jvm.Cond.selects "SecretsWorthModel" ({ cls := "java/lang/Object", name := "toString", desc := "()Ljava/lang/String;" } : Jvm.MethodName) ({ cls := "java/lang/Object", name := "toString", desc := "()Ljava/lang/String;" } : Jvm.MethodName)) ∈ lw_all := lw_g (lw_at lw_m6 200 rfl) rfl
theorem q1532 : (Jvm.Cond.selects "java/lang/ArithmeticException" ({ cls := "java/lang/Object", name := "toString", desc := "()Ljava/lang/String;" } : Jvm.MethodName) ({ cls := "java/lang/Throwable", name := "toString", desc := "()Ljava/lang/String;" } : Jvm.MethodName)) ∈ lw_all := lw_g (lw_at lw_m6 201 rfl) rfl
theorem q1533 : (Jvm.Cond.selects "java/lang/ArrayIndexOutOfBoundsException" ({ cls := "java/lang/Object", name := "toString", desc := "()Ljava/lang/String;" } : Jvm.MethodName) ({ cls := "java/lang/Throwable", name := "toString", desc := "()Ljava/lang/String;" } : Jvm.MethodName)) ∈ lw_all := lw_g (lw_at lw_m6 202 rfl) rfl
theorem q1534 : (Jvm.Cond.selects "java/lang/NullPointerException" ({ cls := "java/lang/Object", name := "toString", desc := "()Ljava/lang/String;" } : Jvm.MethodName) ({ cls := "java/lang/Throwable", name := "toString", desc := "()Ljava/lang/String;" } : Jvm.MethodName)) ∈ lw_all := lw_g (lw_at lw_m6 203 rfl) rfl
theorem q1535 : (Jvm.Cond.selects "java/lang/String" ({ cls := "java/lang/Object", name := "toString", desc := "()Ljava/lang/String;" } : Jvm.MethodName) ({ cls := "java/lang/String", name := "toString", desc := "()Ljava/lang/String;" } : Jvm.MethodName)) ∈ lw_all := lw_g (lw_at lw_m6 204 rfl) rfl
theorem q1536 : (Jvm.Cond.instanceMethod ({ cls := "java/lang/String", name := "toString", desc := "()Ljava/lang/String;" } : Jvm.MethodName)) ∈ lw_all := lw_g (lw_at lw_m6 205 rfl) rfl
theorem q1537 : (Jvm.Cond.code ({ cls := "java/lang/String", name := "toString", desc := "()Ljava/lang/String;" } : Jvm.MethodName) prog_25_method_126_code (1 : Nat) (Option.some (Jvm.ClassFile.FieldType.object "java/lang/String"))) ∈ lw_all := lw_g (lw_at lw_m6 206 rfl) rfl
theorem q1538 : (Jvm.Cond.selects "java/lang/StringBuilder" ({ cls := "java/lang/Object", name := "toString", desc := "()Ljava/lang/String;" } : Jvm.MethodName) ({ cls := "java/lang/StringBuilder", name := "toString", desc := "()Ljava/lang/String;" } : Jvm.MethodName)) ∈ lw_all := lw_g (lw_at lw_m6 207 rfl) rfl
theorem q1539 : (Jvm.Cond.selects "java/lang/System$2" ({ cls := "java/lang/Object", name := "toString", desc := "()Ljava/lang/String;" } : Jvm.MethodName) ({ cls := "java/lang/Object", name := "toString", desc := "()Ljava/lang/String;" } : Jvm.MethodName)) ∈ lw_all := lw_g (lw_at lw_m6 208 rfl) rfl
theorem q1540 : (Jvm.Cond.methodLink "java/lang/StringBuilder" (23 : Nat) ({ cls := "java/lang/StringBuilder", name := "append", desc := "(Ljava/lang/String;)Ljava/lang/StringBuilder;" } : Jvm.MethodName)) ∈ lw_all := lw_g (lw_at lw_m6 209 rfl) rfl
theorem q1541 : (Jvm.Cond.stringRef "SecretsWorth$Node" (70 : Nat) "]") ∈ lw_tbl := lw_at lw_m6 210 rfl
theorem q1542 : (Jvm.Cond.selects "SecretsWorth$Ratio" ({ cls := "SecretsWorth$Says", name := "told", desc := "()Ljava/lang/String;" } : Jvm.MethodName) ({ cls := "SecretsWorth$Ratio", name := "told", desc := "()Ljava/lang/String;" } : Jvm.MethodName)) ∈ lw_all := lw_g (lw_at lw_m6 211 rfl) rfl
theorem q1543 : (Jvm.Cond.unhidden "SecretsWorth$Ratio" "told" "()Ljava/lang/String;") ∈ lw_tbl := lw_at lw_m6 212 rfl
theorem q1544 : (Jvm.Cond.instanceMethod ({ cls := "SecretsWorth$Ratio", name := "told", desc := "()Ljava/lang/String;" } : Jvm.MethodName)) ∈ lw_all := lw_g (lw_at lw_m6 213 rfl) rfl
theorem q1545 : (Jvm.Cond.publicMethod ({ cls := "SecretsWorth$Ratio", name := "told", desc := "()Ljava/lang/String;" } : Jvm.MethodName)) ∈ lw_tbl := lw_at lw_m6 214 rfl
theorem q1546 : (Jvm.Cond.code ({ cls := "SecretsWorth$Ratio", name := "told", desc := "()Ljava/lang/String;" } : Jvm.MethodName) prog_5_method_12_code (1 : Nat) (Option.some (Jvm.ClassFile.FieldType.object "java/lang/String"))) ∈ lw_all := lw_g (lw_at lw_m6 215 rfl) rfl
theorem q1547 : (Jvm.Cond.methodLink "SecretsWorth$Ratio" (39 : Nat) ({ cls := "SecretsWorth$Says", name := "fraction", desc := "(JJ)Ljava/lang/String;" } : Jvm.MethodName)) ∈ lw_all := lw_g (lw_at lw_m6 216 rfl) rfl
theorem q1548 : (Jvm.Cond.static ({ cls := "SecretsWorth$Says", name := "fraction", desc := "(JJ)Ljava/lang/String;" } : Jvm.MethodName)) ∈ lw_all := lw_g (lw_at lw_m6 217 rfl) rfl
theorem q1549 : (Jvm.Cond.code ({ cls := "SecretsWorth$Says", name := "fraction", desc := "(JJ)Ljava/lang/String;" } : Jvm.MethodName) prog_6_method_3_code (4 : Nat) (Option.some (Jvm.ClassFile.FieldType.object "java/lang/String"))) ∈ lw_all := lw_g (lw_at lw_m6 218 rfl) rfl
theorem q1550 : (Jvm.Cond.stringRef "SecretsWorth$Says" (20 : Nat) "") ∈ lw_tbl := lw_at lw_m6 219 rfl
theorem q1551 : (Jvm.Cond.methodLink "SecretsWorth$Says" (22 : Nat) ({ cls := "java/lang/StringBuilder", name := "append", desc := "(J)Ljava/lang/StringBuilder;" } : Jvm.MethodName)) ∈ lw_all := lw_g (lw_at lw_m6 220 rfl) rfl
theorem q1552 : (Jvm.Cond.instanceMethod ({ cls := "java/lang/StringBuilder", name := "append", desc := "(J)Ljava/lang/StringBuilder;" } : Jvm.MethodName)) ∈ lw_all := lw_g (lw_at lw_m6 221 rfl) rfl
theorem q1553 : (Jvm.Cond.selects "java/lang/StringBuilder" ({ cls := "java/lang/StringBuilder", name := "append", desc := "(J)Ljava/lang/StringBuilder;" } : Jvm.MethodName) ({ cls := "java/lang/StringBuilder", name := "append", desc := "(J)Ljava/lang/StringBuilder;" } : Jvm.MethodName)) ∈ lw_all := lw_g (lw_at lw_m6 222 rfl) rfl
theorem q1554 : (Jvm.Cond.code ({ cls := "java/lang/StringBuilder", name := "append", desc := "(J)Ljava/lang/StringBuilder;" } : Jvm.MethodName) prog_26_method_16_code (3 : Nat) (Option.some (Jvm.ClassFile.FieldType.object "java/lang/StringBuilder"))) ∈ lw_all := lw_g (lw_at lw_m6 223 rfl) rfl
theorem q1555 : (Jvm.Cond.methodLink "java/lang/StringBuilder" (56 : Nat) ({ cls := "java/lang/AbstractStringBuilder", name := "append", desc := "(J)Ljava/lang/AbstractStringBuilder;" } : Jvm.MethodName)) ∈ lw_all := lw_g (lw_at lw_m6 224 rfl) rfl
theorem q1556 : (Jvm.Cond.instanceMethod ({ cls := "java/lang/AbstractStringBuilder", name := "append", desc := "(J)Ljava/lang/AbstractStringBuilder;" } : Jvm.MethodName)) ∈ lw_all := lw_g (lw_at lw_m6 225 rfl) rfl
theorem q1557 : (Jvm.Cond.code ({ cls := "java/lang/AbstractStringBuilder", name := "append", desc := "(J)Ljava/lang/AbstractStringBuilder;" } : Jvm.MethodName) prog_12_method_33_code (5 : Nat) (Option.some (Jvm.ClassFile.FieldType.object "java/lang/AbstractStringBuilder"))) ∈ lw_all := lw_g (lw_at lw_m6 226 rfl) rfl
theorem q1558 : (Jvm.Cond.methodLink "java/lang/AbstractStringBuilder" (254 : Nat) ({ cls := "java/lang/Long", name := "stringSize", desc := "(J)I" } : Jvm.MethodName)) ∈ lw_all := lw_g (lw_at lw_m6 227 rfl) rfl
theorem q1559 : (Jvm.Cond.static ({ cls := "java/lang/Long", name := "stringSize", desc := "(J)I" } : Jvm.MethodName)) ∈ lw_all := lw_g (lw_at lw_m6 228 rfl) rfl
theorem q1560 : (Jvm.Cond.code ({ cls := "java/lang/Long", name := "stringSize", desc := "(J)I" } : Jvm.MethodName) prog_20_method_15_code (6 : Nat) (Option.some Jvm.ClassFile.FieldType.int)) ∈ lw_all := lw_g (lw_at lw_m6 229 rfl) rfl
theorem q1561 : (Jvm.Cond.constantLong "java/lang/Long" (140 : Nat) (-10 : Int64)) ∈ lw_all := lw_g (lw_at lw_m6 230 rfl) rfl
theorem q1562 : (Jvm.Cond.constantLong "java/lang/Long" (53 : Nat) (10 : Int64)) ∈ lw_all := lw_g (lw_at lw_m6 231 rfl) rfl
theorem q1563 : (Jvm.Cond.methodLink "java/lang/AbstractStringBuilder" (259 : Nat) ({ cls := "java/lang/Long", name := "getChars", desc := "(JI[B)I" } : Jvm.MethodName)) ∈ lw_all := lw_g (lw_at lw_m6 232 rfl) rfl
theorem q1564 : (Jvm.Cond.static ({ cls := "java/lang/Long", name := "getChars", desc := "(JI[B)I" } : Jvm.MethodName)) ∈ lw_all := lw_g (lw_at lw_m6 233 rfl) rfl
theorem q1565 : (Jvm.Cond.code ({ cls := "java/lang/Long", name := "getChars", desc := "(JI[B)I" } : Jvm.MethodName) prog_20_method_14_code (11 : Nat) (Option.some Jvm.ClassFile.FieldType.int)) ∈ lw_all := lw_g (lw_at lw_m6 234 rfl) rfl
theorem q1566 : (Jvm.Cond.constantLong "java/lang/Long" (129 : Nat) (-2147483648 : Int64)) ∈ lw_all := lw_g (lw_at lw_m6 235 rfl) rfl
theorem q1567 : (Jvm.Cond.constantLong "java/lang/Long" (131 : Nat) (100 : Int64)) ∈ lw_all := lw_g (lw_at lw_m6 236 rfl) rfl
theorem q1568 : (Jvm.Cond.fieldLink "java/lang/Long" (133 : Nat) "java/lang/Integer" "DigitOnes" "[B") ∈ lw_all := lw_g (lw_at lw_m6 237 rfl) rfl
theorem q1569 : (Jvm.Cond.fieldLink "java/lang/Long" (137 : Nat) "java/lang/Integer" "DigitTens" "[B") ∈ lw_all := lw_g (lw_at lw_m6 238 rfl) rfl
theorem q1570 : (Jvm.Cond.methodLink "java/lang/AbstractStringBuilder" (262 : Nat) ({ cls := "java/lang/StringUTF16", name := "getChars", desc := "(JII[B)I" } : Jvm.MethodName)) ∈ lw_all := lw_g (lw_at lw_m6 239 rfl) rfl
theorem q1571 : (Jvm.Cond.static ({ cls := "java/lang/StringUTF16", name := "getChars", desc := "(JII[B)I" } : Jvm.MethodName)) ∈ lw_all := lw_g (lw_at lw_m7 0 rfl) rfl
theorem q1572 : (Jvm.Cond.code ({ cls := "java/lang/StringUTF16", name := "getChars", desc := "(JII[B)I" } : Jvm.MethodName) prog_28_method_78_code (6 : Nat) (Option.some Jvm.ClassFile.FieldType.int)) ∈ lw_all := lw_g (lw_at lw_m7 1 rfl) rfl
theorem q1573 : (Jvm.Cond.methodLink "java/lang/StringUTF16" (396 : Nat) ({ cls := "java/lang/StringUTF16", name := "getChars", desc := "(JI[B)I" } : Jvm.MethodName)) ∈ lw_all := lw_g (lw_at lw_m7 2 rfl) rfl
theorem q1574 : (Jvm.Cond.static ({ cls := "java/lang/StringUTF16", name := "getChars", desc := "(JI[B)I" } : Jvm.MethodName)) ∈ lw_all := lw_g (lw_at lw_m7 3 rfl) rfl
theorem q1575 : (Jvm.Cond.code ({ cls := "java/lang/StringUTF16", name := "getChars", desc := "(JI[B)I" } : Jvm.MethodName) prog_28_method_90_code (11 : Nat) (Option.some Jvm.ClassFile.FieldType.int)) ∈ lw_all := lw_g (lw_at lw_m7 4 rfl) rfl
theorem q1576 : (Jvm.Cond.constantLong "java/lang/StringUTF16" (410 : Nat) (-2147483648 : Int64)) ∈ lw_all := lw_g (lw_at lw_m7 5 rfl) rfl
theorem q1577 : (Jvm.Cond.constantLong "java/lang/StringUTF16" (412 : Nat) (100 : Int64)) ∈ lw_all := lw_g (lw_at lw_m7 6 rfl) rfl
theorem q1578 : (Jvm.Cond.methodLink "SecretsWorth$Says" (17 : Nat) ({ cls := "java/lang/StringBuilder", name := "toString", desc := "()Ljava/lang/String;" } : Jvm.MethodName)) ∈ lw_all := lw_g (lw_at lw_m7 7 rfl) rfl
theorem q1579 : (Jvm.Cond.stringRef "SecretsWorth$Says" (25 : Nat) "/") ∈ lw_tbl := lw_at lw_m7 8 rfl
theorem q1580 : (Jvm.Cond.methodLink "SecretsWorth" (599 : Nat) ({ cls := "SecretsWorth", name := "gameTold", desc := "(I)Ljava/lang/CharSequence;" } : Jvm.MethodName)) ∈ lw_all := lw_g (lw_at lw_m7 9 rfl) rfl
theorem q1581 : (Jvm.Cond.privateMethod ({ cls := "SecretsWorth", name := "gameTold", desc := "(I)Ljava/lang/CharSequence;" } : Jvm.MethodName)) ∈ lw_tbl := lw_at lw_m7 10 rfl
theorem q1582 : (Jvm.Cond.instanceMethod ({ cls := "SecretsWorth", name := "gameTold", desc := "(I)Ljava/lang/CharSequence;" } : Jvm.MethodName)) ∈ lw_all := lw_g (lw_at lw_m7 11 rfl) rfl
theorem q1583 : (Jvm.Cond.code ({ cls := "SecretsWorth", name := "gameTold", desc := "(I)Ljava/lang/CharSequence;" } : Jvm.MethodName) prog_1_method_87_code (5 : Nat) (Option.some (Jvm.ClassFile.FieldType.object "java/lang/CharSequence"))) ∈ lw_all := lw_g (lw_at lw_m7 12 rfl) rfl
theorem q1584 : (Jvm.Cond.stringRef "SecretsWorth" (591 : Nat) ";") ∈ lw_tbl := lw_at lw_m7 13 rfl
theorem q1585 : (Jvm.Cond.methodLink "SecretsWorth" (603 : Nat) ({ cls := "SecretsWorth$Node", name := "told", desc := "()Ljava/lang/String;" } : Jvm.MethodName)) ∈ lw_all := lw_g (lw_at lw_m7 14 rfl) rfl
theorem q1586 : (Jvm.Cond.methodLink "SecretsWorth" (606 : Nat) ({ cls := "SecretsWorth", name := "bestTold", desc := "(I)Ljava/lang/CharSequence;" } : Jvm.MethodName)) ∈ lw_all := lw_g (lw_at lw_m7 15 rfl) rfl
theorem q1587 : (Jvm.Cond.privateMethod ({ cls := "SecretsWorth", name := "bestTold", desc := "(I)Ljava/lang/CharSequence;" } : Jvm.MethodName)) ∈ lw_tbl := lw_at lw_m7 16 rfl
theorem q1588 : (Jvm.Cond.instanceMethod ({ cls := "SecretsWorth", name := "bestTold", desc := "(I)Ljava/lang/CharSequence;" } : Jvm.MethodName)) ∈ lw_all := lw_g (lw_at lw_m7 17 rfl) rfl
theorem q1589 : (Jvm.Cond.code ({ cls := "SecretsWorth", name := "bestTold", desc := "(I)Ljava/lang/CharSequence;" } : Jvm.MethodName) prog_1_method_88_code (6 : Nat) (Option.some (Jvm.ClassFile.FieldType.object "java/lang/CharSequence"))) ∈ lw_all := lw_g (lw_at lw_m7 18 rfl) rfl
theorem q1590 : (Jvm.Cond.stringRef "SecretsWorth" (593 : Nat) "+") ∈ lw_tbl := lw_at lw_m7 19 rfl
theorem q1591 : (Jvm.Cond.interfaceEntry "SecretsWorth" (613 : Nat)) ∈ lw_tbl := lw_at lw_m7 20 rfl
theorem q1592 : (Jvm.Cond.methodLink "SecretsWorth" (613 : Nat) ({ cls := "java/lang/CharSequence", name := "length", desc := "()I" } : Jvm.MethodName)) ∈ lw_all := lw_g (lw_at lw_m7 21 rfl) rfl
theorem q1593 : (Jvm.Cond.interfaceMethod "java/lang/CharSequence" "java/lang/CharSequence" "length" "()I") ∈ lw_tbl := lw_at lw_m7 22 rfl
theorem q1594 : (Jvm.Cond.declares ({ cls := "java/lang/CharSequence", name := "length", desc := "()I" } : Jvm.MethodName)) ∈ lw_tbl := lw_at lw_m7 23 rfl
theorem q1595 : (Jvm.Cond.castable "java/lang/String" "java/lang/CharSequence") ∈ lw_tbl := lw_at lw_m7 24 rfl
theorem q1596 : (Jvm.Cond.selects "java/lang/String" ({ cls := "java/lang/CharSequence", name := "length", desc := "()I" } : Jvm.MethodName) ({ cls := "java/lang/String", name := "length", desc := "()I" } : Jvm.MethodName)) ∈ lw_all := lw_g (lw_at lw_m7 25 rfl) rfl
theorem q1597 : (Jvm.Cond.unhidden "java/lang/String" "length" "()I") ∈ lw_tbl := lw_at lw_m7 26 rfl
theorem q1598 : (Jvm.Cond.publicMethod ({ cls := "java/lang/String", name := "length", desc := "()I" } : Jvm.MethodName)) ∈ lw_tbl := lw_at lw_m7 27 rfl
theorem q1599 : (Jvm.Cond.castable "java/lang/StringBuilder" "java/lang/CharSequence") ∈ lw_tbl := lw_at lw_m7 28 rfl
theorem q1600 : (Jvm.Cond.selects "java/lang/StringBuilder" ({ cls := "java/lang/CharSequence", name := "length", desc := "()I" } : Jvm.MethodName) ({ cls := "java/lang/StringBuilder", name := "length", desc := "()I" } : Jvm.MethodName)) ∈ lw_all := lw_g (lw_at lw_m7 29 rfl) rfl
theorem q1601 : (Jvm.Cond.unhidden "java/lang/StringBuilder" "length" "()I") ∈ lw_tbl := lw_at lw_m7 30 rfl
theorem q1602 : (Jvm.Cond.publicMethod ({ cls := "java/lang/StringBuilder", name := "length", desc := "()I" } : Jvm.MethodName)) ∈ lw_tbl := lw_at lw_m7 31 rfl
theorem q1603 : (Jvm.Cond.methodLink "SecretsWorthLaw" (126 : Nat) ({ cls := "SecretsWorth", name := "letter", desc := "(I)I" } : Jvm.MethodName)) ∈ lw_all := lw_g (lw_at lw_m7 32 rfl) rfl
theorem q1604 : (Jvm.Cond.instanceMethod ({ cls := "SecretsWorth", name := "letter", desc := "(I)I" } : Jvm.MethodName)) ∈ lw_all := lw_g (lw_at lw_m7 33 rfl) rfl
theorem q1605 : (Jvm.Cond.selects "SecretsWorth" ({ cls := "SecretsWorth", name := "letter", desc := "(I)I" } : Jvm.MethodName) ({ cls := "SecretsWorth", name := "letter", desc := "(I)I" } : Jvm.MethodName)) ∈ lw_all := lw_g (lw_at lw_m7 34 rfl) rfl
theorem q1606 : (Jvm.Cond.codeWith ({ cls := "SecretsWorth", name := "letter", desc := "(I)I" } : Jvm.MethodName) prog_1_method_91_code (3 : Nat) (Option.some Jvm.ClassFile.FieldType.int) [((0 : Nat), (31 : Nat), (32 : Nat), (1 : Nat))]) ∈ lw_all := lw_g (lw_at lw_m7 35 rfl) rfl
theorem q1607 : (Jvm.Cond.interfaceEntry "SecretsWorth" (618 : Nat)) ∈ lw_tbl := lw_at lw_m7 36 rfl
theorem q1608 : (Jvm.Cond.methodLink "SecretsWorth" (618 : Nat) ({ cls := "java/lang/CharSequence", name := "charAt", desc := "(I)C" } : Jvm.MethodName)) ∈ lw_all := lw_g (lw_at lw_m7 37 rfl) rfl
theorem q1609 : (Jvm.Cond.interfaceMethod "java/lang/CharSequence" "java/lang/CharSequence" "charAt" "(I)C") ∈ lw_tbl := lw_at lw_m7 38 rfl
theorem q1610 : (Jvm.Cond.declares ({ cls := "java/lang/CharSequence", name := "charAt", desc := "(I)C" } : Jvm.MethodName)) ∈ lw_tbl := lw_at lw_m7 39 rfl
theorem q1611 : (Jvm.Cond.selects "java/lang/String" ({ cls := "java/lang/CharSequence", name := "charAt", desc := "(I)C" } : Jvm.MethodName) ({ cls := "java/lang/String", name := "charAt", desc := "(I)C" } : Jvm.MethodName)) ∈ lw_all := lw_g (lw_at lw_m7 40 rfl) rfl
theorem q1612 : (Jvm.Cond.unhidden "java/lang/String" "charAt" "(I)C") ∈ lw_tbl := lw_at lw_m7 41 rfl
theorem q1613 : (Jvm.Cond.instanceMethod ({ cls := "java/lang/String", name := "charAt", desc := "(I)C" } : Jvm.MethodName)) ∈ lw_all := lw_g (lw_at lw_m7 42 rfl) rfl
theorem q1614 : (Jvm.Cond.publicMethod ({ cls := "java/lang/String", name := "charAt", desc := "(I)C" } : Jvm.MethodName)) ∈ lw_tbl := lw_at lw_m7 43 rfl
theorem q1615 : (Jvm.Cond.code ({ cls := "java/lang/String", name := "charAt", desc := "(I)C" } : Jvm.MethodName) prog_25_method_56_code (2 : Nat) (Option.some Jvm.ClassFile.FieldType.char)) ∈ lw_all := lw_g (lw_at lw_m7 44 rfl) rfl
theorem q1616 : (Jvm.Cond.methodLink "java/lang/String" (495 : Nat) ({ cls := "java/lang/StringLatin1", name := "charAt", desc := "([BI)C" } : Jvm.MethodName)) ∈ lw_all := lw_g (lw_at lw_m7 45 rfl) rfl
theorem q1617 : (Jvm.Cond.static ({ cls := "java/lang/StringLatin1", name := "charAt", desc := "([BI)C" } : Jvm.MethodName)) ∈ lw_all := lw_g (lw_at lw_m7 46 rfl) rfl
theorem q1618 : (Jvm.Cond.code ({ cls := "java/lang/StringLatin1", name := "charAt", desc := "([BI)C" } : Jvm.MethodName) prog_27_method_2_code (2 : Nat) (Option.some Jvm.ClassFile.FieldType.char)) ∈ lw_all := lw_g (lw_at lw_m7 47 rfl) rfl
theorem q1619 : (Jvm.Cond.methodLink "java/lang/StringLatin1" (9 : Nat) ({ cls := "java/lang/String", name := "checkIndex", desc := "(II)V" } : Jvm.MethodName)) ∈ lw_all := lw_g (lw_at lw_m7 48 rfl) rfl
theorem q1620 : (Jvm.Cond.methodLink "java/lang/String" (498 : Nat) ({ cls := "java/lang/StringUTF16", name := "charAt", desc := "([BI)C" } : Jvm.MethodName)) ∈ lw_all := lw_g (lw_at lw_m7 49 rfl) rfl
theorem q1621 : (Jvm.Cond.static ({ cls := "java/lang/StringUTF16", name := "charAt", desc := "([BI)C" } : Jvm.MethodName)) ∈ lw_all := lw_g (lw_at lw_m7 50 rfl) rfl
theorem q1622 : (Jvm.Cond.code ({ cls := "java/lang/StringUTF16", name := "charAt", desc := "([BI)C" } : Jvm.MethodName) prog_28_method_83_code (2 : Nat) (Option.some Jvm.ClassFile.FieldType.char)) ∈ lw_all := lw_g (lw_at lw_m7 51 rfl) rfl
theorem q1623 : (Jvm.Cond.selects "java/lang/StringBuilder" ({ cls := "java/lang/CharSequence", name := "charAt", desc := "(I)C" } : Jvm.MethodName) ({ cls := "java/lang/StringBuilder", name := "charAt", desc := "(I)C" } : Jvm.MethodName)) ∈ lw_all := lw_g (lw_at lw_m7 52 rfl) rfl
theorem q1624 : (Jvm.Cond.unhidden "java/lang/StringBuilder" "charAt" "(I)C") ∈ lw_tbl := lw_at lw_m7 53 rfl
theorem q1625 : (Jvm.Cond.instanceMethod ({ cls := "java/lang/StringBuilder", name := "charAt", desc := "(I)C" } : Jvm.MethodName)) ∈ lw_all := lw_g (lw_at lw_m7 54 rfl) rfl
theorem q1626 : (Jvm.Cond.publicMethod ({ cls := "java/lang/StringBuilder", name := "charAt", desc := "(I)C" } : Jvm.MethodName)) ∈ lw_tbl := lw_at lw_m7 55 rfl
theorem q1627 : (Jvm.Cond.code ({ cls := "java/lang/StringBuilder", name := "charAt", desc := "(I)C" } : Jvm.MethodName) prog_26_method_88_code (2 : Nat) (Option.some Jvm.ClassFile.FieldType.char)) ∈ lw_all := lw_g (lw_at lw_m7 56 rfl) rfl
theorem q1628 : (Jvm.Cond.methodLink "java/lang/StringBuilder" (329 : Nat) ({ cls := "java/lang/AbstractStringBuilder", name := "charAt", desc := "(I)C" } : Jvm.MethodName)) ∈ lw_all := lw_g (lw_at lw_m7 57 rfl) rfl
theorem q1629 : (Jvm.Cond.instanceMethod ({ cls := "java/lang/AbstractStringBuilder", name := "charAt", desc := "(I)C" } : Jvm.MethodName)) ∈ lw_all := lw_g (lw_at lw_m7 58 rfl) rfl
theorem q1630 : (Jvm.Cond.code ({ cls := "java/lang/AbstractStringBuilder", name := "charAt", desc := "(I)C" } : Jvm.MethodName) prog_12_method_14_code (5 : Nat) (Option.some Jvm.ClassFile.FieldType.char)) ∈ lw_all := lw_g (lw_at lw_m7 59 rfl) rfl
theorem q1631 : (Jvm.Cond.methodLink "java/lang/AbstractStringBuilder" (138 : Nat) ({ cls := "java/lang/Math", name := "min", desc := "(II)I" } : Jvm.MethodName)) ∈ lw_all := lw_g (lw_at lw_m7 60 rfl) rfl
theorem q1632 : (Jvm.Cond.methodLink "java/lang/AbstractStringBuilder" (144 : Nat) ({ cls := "java/lang/String", name := "checkIndex", desc := "(II)V" } : Jvm.MethodName)) ∈ lw_all := lw_g (lw_at lw_m7 61 rfl) rfl
theorem q1633 : (Jvm.Cond.methodLink "java/lang/AbstractStringBuilder" (148 : Nat) ({ cls := "java/lang/StringUTF16", name := "getChar", desc := "([BI)C" } : Jvm.MethodName)) ∈ lw_all := lw_g (lw_at lw_m7 62 rfl) rfl
theorem q1634 : (Jvm.Cond.methodLink "SecretsWorthLaw" (130 : Nat) ({ cls := "SecretsWorth", name := "letters", desc := "(I)I" } : Jvm.MethodName)) ∈ lw_all := lw_g (lw_at lw_m7 63 rfl) rfl
theorem q1635 : (Jvm.Cond.instanceMethod ({ cls := "SecretsWorth", name := "letters", desc := "(I)I" } : Jvm.MethodName)) ∈ lw_all := lw_g (lw_at lw_m7 64 rfl) rfl
theorem q1636 : (Jvm.Cond.selects "SecretsWorth" ({ cls := "SecretsWorth", name := "letters", desc := "(I)I" } : Jvm.MethodName) ({ cls := "SecretsWorth", name := "letters", desc := "(I)I" } : Jvm.MethodName)) ∈ lw_all := lw_g (lw_at lw_m7 65 rfl) rfl
theorem q1637 : (Jvm.Cond.code ({ cls := "SecretsWorth", name := "letters", desc := "(I)I" } : Jvm.MethodName) prog_1_method_92_code (4 : Nat) (Option.some Jvm.ClassFile.FieldType.int)) ∈ lw_all := lw_g (lw_at lw_m7 66 rfl) rfl
theorem q1638 : (Jvm.Cond.methodLink "SecretsWorthLaw" (134 : Nat) ({ cls := "SecretsWorth", name := "begin", desc := "()I" } : Jvm.MethodName)) ∈ lw_all := lw_g (lw_at lw_m7 67 rfl) rfl
theorem q1639 : (Jvm.Cond.instanceMethod ({ cls := "SecretsWorth", name := "begin", desc := "()I" } : Jvm.MethodName)) ∈ lw_all := lw_g (lw_at lw_m7 68 rfl) rfl
theorem q1640 : (Jvm.Cond.selects "SecretsWorth" ({ cls := "SecretsWorth", name := "begin", desc := "()I" } : Jvm.MethodName) ({ cls := "SecretsWorth", name := "begin", desc := "()I" } : Jvm.MethodName)) ∈ lw_all := lw_g (lw_at lw_m7 69 rfl) rfl
theorem q1641 : (Jvm.Cond.code ({ cls := "SecretsWorth", name := "begin", desc := "()I" } : Jvm.MethodName) prog_1_method_93_code (2 : Nat) (Option.some Jvm.ClassFile.FieldType.int)) ∈ lw_all := lw_g (lw_at lw_m7 70 rfl) rfl
theorem q1642 : (Jvm.Cond.methodLink "SecretsWorthLaw" (138 : Nat) ({ cls := "SecretsWorth", name := "round", desc := "(I)I" } : Jvm.MethodName)) ∈ lw_all := lw_g (lw_at lw_m7 71 rfl) rfl
theorem q1643 : (Jvm.Cond.instanceMethod ({ cls := "SecretsWorth", name := "round", desc := "(I)I" } : Jvm.MethodName)) ∈ lw_all := lw_g (lw_at lw_m7 72 rfl) rfl
theorem q1644 : (Jvm.Cond.selects "SecretsWorth" ({ cls := "SecretsWorth", name := "round", desc := "(I)I" } : Jvm.MethodName) ({ cls := "SecretsWorth", name := "round", desc := "(I)I" } : Jvm.MethodName)) ∈ lw_all := lw_g (lw_at lw_m7 73 rfl) rfl
theorem q1645 : (Jvm.Cond.codeWith ({ cls := "SecretsWorth", name := "round", desc := "(I)I" } : Jvm.MethodName) prog_1_method_98_code (3 : Nat) (Option.some Jvm.ClassFile.FieldType.int) [((0 : Nat), (141 : Nat), (142 : Nat), (1 : Nat))]) ∈ lw_all := lw_g (lw_at lw_m7 74 rfl) rfl
theorem q1646 : (Jvm.Cond.classLink "SecretsWorth" (644 : Nat) "SecretsWorth$Was") ∈ lw_all := lw_g (lw_at lw_m7 75 rfl) rfl
theorem q1647 : (Jvm.Cond.instantiable "SecretsWorth$Was" (6 : Nat)) ∈ lw_all := lw_g (lw_at lw_m7 76 rfl) rfl
theorem q1648 : (Jvm.Cond.methodLink "SecretsWorth" (646 : Nat) ({ cls := "SecretsWorth$Was", name := "<init>", desc := "([IIILSecretsWorth$Was;)V" } : Jvm.MethodName)) ∈ lw_all := lw_g (lw_at lw_m7 77 rfl) rfl
theorem q1649 : (Jvm.Cond.instanceMethod ({ cls := "SecretsWorth$Was", name := "<init>", desc := "([IIILSecretsWorth$Was;)V" } : Jvm.MethodName)) ∈ lw_all := lw_g (lw_at lw_m7 78 rfl) rfl
theorem q1650 : (Jvm.Cond.code ({ cls := "SecretsWorth$Was", name := "<init>", desc := "([IIILSecretsWorth$Was;)V" } : Jvm.MethodName) prog_8_method_1_code (5 : Nat) (Option.none : Option Jvm.ClassFile.FieldType)) ∈ lw_all := lw_g (lw_at lw_m7 79 rfl) rfl
theorem q1651 : (Jvm.Cond.methodLink "SecretsWorth$Was" (1 : Nat) ({ cls := "java/lang/Object", name := "<init>", desc := "()V" } : Jvm.MethodName)) ∈ lw_all := lw_g (lw_at lw_m7 80 rfl) rfl
theorem q1652 : (Jvm.Cond.fieldLink "SecretsWorth$Was" (7 : Nat) "SecretsWorth$Was" "first" "I") ∈ lw_all := lw_g (lw_at lw_m7 81 rfl) rfl
theorem q1653 : (Jvm.Cond.fieldLink "SecretsWorth" (655 : Nat) "SecretsWorth$Was" "first" "I") ∈ lw_all := lw_g (lw_at lw_m7 82 rfl) rfl
theorem q1654 : (Jvm.Cond.fieldLink "SecretsWorth$Was" (13 : Nat) "SecretsWorth$Was" "second" "I") ∈ lw_all := lw_g (lw_at lw_m7 83 rfl) rfl
theorem q1655 : (Jvm.Cond.fieldLink "SecretsWorth" (658 : Nat) "SecretsWorth$Was" "second" "I") ∈ lw_all := lw_g (lw_at lw_m7 84 rfl) rfl
theorem q1656 : (Jvm.Cond.fieldLink "SecretsWorth$Was" (16 : Nat) "SecretsWorth$Was" "third" "I") ∈ lw_all := lw_g (lw_at lw_m7 85 rfl) rfl
theorem q1657 : (Jvm.Cond.fieldLink "SecretsWorth" (661 : Nat) "SecretsWorth$Was" "third" "I") ∈ lw_all := lw_g (lw_at lw_m7 86 rfl) rfl
theorem q1658 : (Jvm.Cond.fieldLink "SecretsWorth$Was" (19 : Nat) "SecretsWorth$Was" "drawn" "I") ∈ lw_all := lw_g (lw_at lw_m7 87 rfl) rfl
theorem q1659 : (Jvm.Cond.fieldLink "SecretsWorth" (664 : Nat) "SecretsWorth$Was" "drawn" "I") ∈ lw_all := lw_g (lw_at lw_m7 88 rfl) rfl
theorem q1660 : (Jvm.Cond.fieldLink "SecretsWorth$Was" (22 : Nat) "SecretsWorth$Was" "column" "I") ∈ lw_all := lw_g (lw_at lw_m7 89 rfl) rfl
theorem q1661 : (Jvm.Cond.fieldLink "SecretsWorth" (667 : Nat) "SecretsWorth$Was" "column" "I") ∈ lw_all := lw_g (lw_at lw_m7 90 rfl) rfl
theorem q1662 : (Jvm.Cond.fieldLink "SecretsWorth$Was" (25 : Nat) "SecretsWorth$Was" "ahead" "LSecretsWorth$Was;") ∈ lw_all := lw_g (lw_at lw_m7 91 rfl) rfl
theorem q1663 : (Jvm.Cond.fieldLink "SecretsWorth" (670 : Nat) "SecretsWorth$Was" "ahead" "LSecretsWorth$Was;") ∈ lw_all := lw_g (lw_at lw_m7 92 rfl) rfl
theorem q1664 : (Jvm.Cond.laysFinal "SecretsWorth$Was" "SecretsWorth$Was" "first" "I") ∈ lw_all := lw_g (lw_at lw_m7 93 rfl) rfl
theorem q1665 : (Jvm.Cond.soleField "SecretsWorth$Was" "first") ∈ lw_all := lw_g (lw_at lw_m7 94 rfl) rfl
theorem q1666 : (Jvm.Cond.laysFinal "SecretsWorth$Was" "SecretsWorth$Was" "second" "I") ∈ lw_all := lw_g (lw_at lw_m7 95 rfl) rfl
theorem q1667 : (Jvm.Cond.soleField "SecretsWorth$Was" "second") ∈ lw_all := lw_g (lw_at lw_m7 96 rfl) rfl
theorem q1668 : (Jvm.Cond.laysFinal "SecretsWorth$Was" "SecretsWorth$Was" "third" "I") ∈ lw_all := lw_g (lw_at lw_m7 97 rfl) rfl
theorem q1669 : (Jvm.Cond.soleField "SecretsWorth$Was" "third") ∈ lw_all := lw_g (lw_at lw_m7 98 rfl) rfl
theorem q1670 : (Jvm.Cond.laysFinal "SecretsWorth$Was" "SecretsWorth$Was" "drawn" "I") ∈ lw_all := lw_g (lw_at lw_m7 99 rfl) rfl
theorem q1671 : (Jvm.Cond.soleField "SecretsWorth$Was" "drawn") ∈ lw_all := lw_g (lw_at lw_m7 100 rfl) rfl
theorem q1672 : (Jvm.Cond.laysFinal "SecretsWorth$Was" "SecretsWorth$Was" "column" "I") ∈ lw_all := lw_g (lw_at lw_m7 101 rfl) rfl
theorem q1673 : (Jvm.Cond.soleField "SecretsWorth$Was" "column") ∈ lw_all := lw_g (lw_at lw_m7 102 rfl) rfl
theorem q1674 : (Jvm.Cond.laysFinal "SecretsWorth$Was" "SecretsWorth$Was" "ahead" "LSecretsWorth$Was;") ∈ lw_all := lw_g (lw_at lw_m7 103 rfl) rfl
theorem q1675 : (Jvm.Cond.soleField "SecretsWorth$Was" "ahead") ∈ lw_all := lw_g (lw_at lw_m7 104 rfl) rfl
theorem q1676 : (Jvm.Cond.superclass "SecretsWorth$Was" "java/lang/Object") ∈ lw_all := lw_g (lw_at lw_m7 105 rfl) rfl
theorem q1677 : (Jvm.Cond.methodLink "SecretsWorth" (649 : Nat) ({ cls := "SecretsWorth", name := "allExcess", desc := "()I" } : Jvm.MethodName)) ∈ lw_all := lw_g (lw_at lw_m7 106 rfl) rfl
theorem q1678 : (Jvm.Cond.privateMethod ({ cls := "SecretsWorth", name := "allExcess", desc := "()I" } : Jvm.MethodName)) ∈ lw_tbl := lw_at lw_m7 107 rfl
theorem q1679 : (Jvm.Cond.instanceMethod ({ cls := "SecretsWorth", name := "allExcess", desc := "()I" } : Jvm.MethodName)) ∈ lw_all := lw_g (lw_at lw_m7 108 rfl) rfl
theorem q1680 : (Jvm.Cond.code ({ cls := "SecretsWorth", name := "allExcess", desc := "()I" } : Jvm.MethodName) prog_1_method_95_code (1 : Nat) (Option.some Jvm.ClassFile.FieldType.int)) ∈ lw_all := lw_g (lw_at lw_m7 109 rfl) rfl
theorem q1681 : (Jvm.Cond.methodLink "SecretsWorth" (635 : Nat) ({ cls := "SecretsWorth", name := "excess", desc := "(I)I" } : Jvm.MethodName)) ∈ lw_all := lw_g (lw_at lw_m7 110 rfl) rfl
theorem q1682 : (Jvm.Cond.privateMethod ({ cls := "SecretsWorth", name := "excess", desc := "(I)I" } : Jvm.MethodName)) ∈ lw_tbl := lw_at lw_m7 111 rfl
theorem q1683 : (Jvm.Cond.instanceMethod ({ cls := "SecretsWorth", name := "excess", desc := "(I)I" } : Jvm.MethodName)) ∈ lw_all := lw_g (lw_at lw_m7 112 rfl) rfl
theorem q1684 : (Jvm.Cond.code ({ cls := "SecretsWorth", name := "excess", desc := "(I)I" } : Jvm.MethodName) prog_1_method_94_code (2 : Nat) (Option.some Jvm.ClassFile.FieldType.int)) ∈ lw_all := lw_g (lw_at lw_m7 113 rfl) rfl
theorem q1685 : (Jvm.Cond.methodLink "SecretsWorth" (630 : Nat) ({ cls := "java/lang/Math", name := "max", desc := "(II)I" } : Jvm.MethodName)) ∈ lw_all := lw_g (lw_at lw_m7 114 rfl) rfl
theorem q1686 : (Jvm.Cond.methodLink "SecretsWorth" (652 : Nat) ({ cls := "SecretsWorth", name := "approaches", desc := "()I" } : Jvm.MethodName)) ∈ lw_all := lw_g (lw_at lw_m7 115 rfl) rfl
theorem q1687 : (Jvm.Cond.privateMethod ({ cls := "SecretsWorth", name := "approaches", desc := "()I" } : Jvm.MethodName)) ∈ lw_tbl := lw_at lw_m7 116 rfl
theorem q1688 : (Jvm.Cond.instanceMethod ({ cls := "SecretsWorth", name := "approaches", desc := "()I" } : Jvm.MethodName)) ∈ lw_all := lw_g (lw_at lw_m7 117 rfl) rfl
theorem q1689 : (Jvm.Cond.code ({ cls := "SecretsWorth", name := "approaches", desc := "()I" } : Jvm.MethodName) prog_1_method_97_code (7 : Nat) (Option.some Jvm.ClassFile.FieldType.int)) ∈ lw_all := lw_g (lw_at lw_m7 118 rfl) rfl
theorem q1690 : (Jvm.Cond.methodLink "SecretsWorth" (638 : Nat) ({ cls := "SecretsWorth", name := "laysExcess", desc := "()V" } : Jvm.MethodName)) ∈ lw_all := lw_g (lw_at lw_m7 119 rfl) rfl
theorem q1691 : (Jvm.Cond.privateMethod ({ cls := "SecretsWorth", name := "laysExcess", desc := "()V" } : Jvm.MethodName)) ∈ lw_tbl := lw_at lw_m7 120 rfl
theorem q1692 : (Jvm.Cond.instanceMethod ({ cls := "SecretsWorth", name := "laysExcess", desc := "()V" } : Jvm.MethodName)) ∈ lw_all := lw_g (lw_at lw_m7 121 rfl) rfl
theorem q1693 : (Jvm.Cond.code ({ cls := "SecretsWorth", name := "laysExcess", desc := "()V" } : Jvm.MethodName) prog_1_method_96_code (6 : Nat) (Option.none : Option Jvm.ClassFile.FieldType)) ∈ lw_all := lw_g (lw_at lw_m7 122 rfl) rfl
theorem q1694 : (Jvm.Cond.constant "SecretsWorth" (641 : Nat) (1103515245 : Int32)) ∈ lw_all := lw_g (lw_at lw_m7 123 rfl) rfl
theorem q1695 : (Jvm.Cond.constantLong "SecretsWorth" (642 : Nat) (1000 : Int64)) ∈ lw_all := lw_g (lw_at lw_m7 124 rfl) rfl
theorem q1696 : (Jvm.Cond.methodLink "SecretsWorthLaw" (142 : Nat) ({ cls := "SecretsWorth", name := "back", desc := "()I" } : Jvm.MethodName)) ∈ lw_all := lw_g (lw_at lw_m7 125 rfl) rfl
theorem q1697 : (Jvm.Cond.instanceMethod ({ cls := "SecretsWorth", name := "back", desc := "()I" } : Jvm.MethodName)) ∈ lw_all := lw_g (lw_at lw_m7 126 rfl) rfl
theorem q1698 : (Jvm.Cond.selects "SecretsWorth" ({ cls := "SecretsWorth", name := "back", desc := "()I" } : Jvm.MethodName) ({ cls := "SecretsWorth", name := "back", desc := "()I" } : Jvm.MethodName)) ∈ lw_all := lw_g (lw_at lw_m7 127 rfl) rfl
theorem q1699 : (Jvm.Cond.codeWith ({ cls := "SecretsWorth", name := "back", desc := "()I" } : Jvm.MethodName) prog_1_method_99_code (2 : Nat) (Option.some Jvm.ClassFile.FieldType.int) [((0 : Nat), (109 : Nat), (110 : Nat), (1 : Nat))]) ∈ lw_all := lw_g (lw_at lw_m7 128 rfl) rfl
theorem q1700 : (Jvm.Cond.methodLink "SecretsWorthLaw" (146 : Nat) ({ cls := "SecretsWorth", name := "played", desc := "(I)I" } : Jvm.MethodName)) ∈ lw_all := lw_g (lw_at lw_m7 129 rfl) rfl
theorem q1701 : (Jvm.Cond.instanceMethod ({ cls := "SecretsWorth", name := "played", desc := "(I)I" } : Jvm.MethodName)) ∈ lw_all := lw_g (lw_at lw_m7 130 rfl) rfl
theorem q1702 : (Jvm.Cond.selects "SecretsWorth" ({ cls := "SecretsWorth", name := "played", desc := "(I)I" } : Jvm.MethodName) ({ cls := "SecretsWorth", name := "played", desc := "(I)I" } : Jvm.MethodName)) ∈ lw_all := lw_g (lw_at lw_m7 131 rfl) rfl
theorem q1703 : (Jvm.Cond.codeWith ({ cls := "SecretsWorth", name := "played", desc := "(I)I" } : Jvm.MethodName) prog_1_method_100_code (3 : Nat) (Option.some Jvm.ClassFile.FieldType.int) [((0 : Nat), (105 : Nat), (106 : Nat), (1 : Nat))]) ∈ lw_all := lw_g (lw_at lw_m7 132 rfl) rfl
theorem q1704 : (Jvm.Cond.constantLong "SecretsWorth" (673 : Nat) (5 : Int64)) ∈ lw_all := lw_g (lw_at lw_m7 133 rfl) rfl
theorem q1705 : (Jvm.Cond.methodLink "SecretsWorthLaw" (150 : Nat) ({ cls := "SecretsWorth", name := "replay", desc := "(IIII)J" } : Jvm.MethodName)) ∈ lw_all := lw_g (lw_at lw_m7 134 rfl) rfl
theorem q1706 : (Jvm.Cond.instanceMethod ({ cls := "SecretsWorth", name := "replay", desc := "(IIII)J" } : Jvm.MethodName)) ∈ lw_all := lw_g (lw_at lw_m7 135 rfl) rfl
theorem q1707 : (Jvm.Cond.selects "SecretsWorth" ({ cls := "SecretsWorth", name := "replay", desc := "(IIII)J" } : Jvm.MethodName) ({ cls := "SecretsWorth", name := "replay", desc := "(IIII)J" } : Jvm.MethodName)) ∈ lw_all := lw_g (lw_at lw_m7 136 rfl) rfl
theorem q1708 : (Jvm.Cond.codeWith ({ cls := "SecretsWorth", name := "replay", desc := "(IIII)J" } : Jvm.MethodName) prog_1_method_102_code (9 : Nat) (Option.some Jvm.ClassFile.FieldType.long) [((0 : Nat), (146 : Nat), (147 : Nat), (377 : Nat)), ((0 : Nat), (146 : Nat), (163 : Nat), (1 : Nat))]) ∈ lw_all := lw_g (lw_at lw_m7 137 rfl) rfl
theorem q1709 : (Jvm.Cond.methodLink "SecretsWorth" (675 : Nat) ({ cls := "SecretsWorth$Sheet", name := "size", desc := "()I" } : Jvm.MethodName)) ∈ lw_all := lw_g (lw_at lw_m7 138 rfl) rfl
theorem q1710 : (Jvm.Cond.instanceMethod ({ cls := "SecretsWorth$Sheet", name := "size", desc := "()I" } : Jvm.MethodName)) ∈ lw_all := lw_g (lw_at lw_m7 139 rfl) rfl
theorem q1711 : (Jvm.Cond.selects "SecretsWorth$Sheet" ({ cls := "SecretsWorth$Sheet", name := "size", desc := "()I" } : Jvm.MethodName) ({ cls := "SecretsWorth$Sheet", name := "size", desc := "()I" } : Jvm.MethodName)) ∈ lw_all := lw_g (lw_at lw_m7 140 rfl) rfl
theorem q1712 : (Jvm.Cond.codeWith ({ cls := "SecretsWorth$Sheet", name := "size", desc := "()I" } : Jvm.MethodName) prog_7_method_3_code (2 : Nat) (Option.some Jvm.ClassFile.FieldType.int) [((0 : Nat), (29 : Nat), (30 : Nat), (19 : Nat))]) ∈ lw_all := lw_g (lw_at lw_m7 141 rfl) rfl
theorem q1713 : (Jvm.Cond.methodLink "SecretsWorth" (677 : Nat) ({ cls := "SecretsWorth", name := "stands", desc := "(IJJ)J" } : Jvm.MethodName)) ∈ lw_all := lw_g (lw_at lw_m7 142 rfl) rfl
theorem q1714 : (Jvm.Cond.privateMethod ({ cls := "SecretsWorth", name := "stands", desc := "(IJJ)J" } : Jvm.MethodName)) ∈ lw_tbl := lw_at lw_m7 143 rfl
theorem q1715 : (Jvm.Cond.instanceMethod ({ cls := "SecretsWorth", name := "stands", desc := "(IJJ)J" } : Jvm.MethodName)) ∈ lw_all := lw_g (lw_at lw_m7 144 rfl) rfl
theorem q1716 : (Jvm.Cond.code ({ cls := "SecretsWorth", name := "stands", desc := "(IJJ)J" } : Jvm.MethodName) prog_1_method_101_code (6 : Nat) (Option.some Jvm.ClassFile.FieldType.long)) ∈ lw_all := lw_g (lw_at lw_m7 145 rfl) rfl
theorem q1717 : (Jvm.Cond.methodLink "SecretsWorthLaw" (154 : Nat) ({ cls := "SecretsWorth", name := "sheet", desc := "(III)I" } : Jvm.MethodName)) ∈ lw_all := lw_g (lw_at lw_m7 146 rfl) rfl
theorem q1718 : (Jvm.Cond.instanceMethod ({ cls := "SecretsWorth", name := "sheet", desc := "(III)I" } : Jvm.MethodName)) ∈ lw_all := lw_g (lw_at lw_m7 147 rfl) rfl
theorem q1719 : (Jvm.Cond.selects "SecretsWorth" ({ cls := "SecretsWorth", name := "sheet", desc := "(III)I" } : Jvm.MethodName) ({ cls := "SecretsWorth", name := "sheet", desc := "(III)I" } : Jvm.MethodName)) ∈ lw_all := lw_g (lw_at lw_m7 148 rfl) rfl
theorem q1720 : (Jvm.Cond.codeWith ({ cls := "SecretsWorth", name := "sheet", desc := "(III)I" } : Jvm.MethodName) prog_1_method_104_code (5 : Nat) (Option.some Jvm.ClassFile.FieldType.int) [((0 : Nat), (78 : Nat), (79 : Nat), (1 : Nat))]) ∈ lw_all := lw_g (lw_at lw_m7 149 rfl) rfl
theorem q1721 : (Jvm.Cond.methodLink "SecretsWorth" (681 : Nat) ({ cls := "SecretsWorth$Sheet", name := "becomes", desc := "(II)V" } : Jvm.MethodName)) ∈ lw_all := lw_g (lw_at lw_m7 150 rfl) rfl
theorem q1722 : (Jvm.Cond.instanceMethod ({ cls := "SecretsWorth$Sheet", name := "becomes", desc := "(II)V" } : Jvm.MethodName)) ∈ lw_all := lw_g (lw_at lw_m7 151 rfl) rfl
theorem q1723 : (Jvm.Cond.selects "SecretsWorth$Sheet" ({ cls := "SecretsWorth$Sheet", name := "becomes", desc := "(II)V" } : Jvm.MethodName) ({ cls := "SecretsWorth$Sheet", name := "becomes", desc := "(II)V" } : Jvm.MethodName)) ∈ lw_all := lw_g (lw_at lw_m7 152 rfl) rfl
theorem q1724 : (Jvm.Cond.code ({ cls := "SecretsWorth$Sheet", name := "becomes", desc := "(II)V" } : Jvm.MethodName) prog_7_method_2_code (3 : Nat) (Option.none : Option Jvm.ClassFile.FieldType)) ∈ lw_all := lw_g (lw_at lw_m7 153 rfl) rfl
theorem q1725 : (Jvm.Cond.arrayClass Jvm.ClassFile.FieldType.short) ∈ lw_all := lw_g (lw_at lw_m7 154 rfl) rfl
theorem q1726 : (Jvm.Cond.methodLink "SecretsWorthLaw" (160 : Nat) ({ cls := "SecretsWorth", name := "put", desc := "(IIJ)I" } : Jvm.MethodName)) ∈ lw_all := lw_g (lw_at lw_m7 155 rfl) rfl
theorem q1727 : (Jvm.Cond.instanceMethod ({ cls := "SecretsWorth", name := "put", desc := "(IIJ)I" } : Jvm.MethodName)) ∈ lw_all := lw_g (lw_at lw_m7 156 rfl) rfl
theorem q1728 : (Jvm.Cond.selects "SecretsWorth" ({ cls := "SecretsWorth", name := "put", desc := "(IIJ)I" } : Jvm.MethodName) ({ cls := "SecretsWorth", name := "put", desc := "(IIJ)I" } : Jvm.MethodName)) ∈ lw_all := lw_g (lw_at lw_m7 157 rfl) rfl
theorem q1729 : (Jvm.Cond.codeWith ({ cls := "SecretsWorth", name := "put", desc := "(IIJ)I" } : Jvm.MethodName) prog_1_method_105_code (6 : Nat) (Option.some Jvm.ClassFile.FieldType.int) [((0 : Nat), (19 : Nat), (20 : Nat), (1 : Nat))]) ∈ lw_all := lw_g (lw_at lw_m7 158 rfl) rfl
theorem q1730 : (Jvm.Cond.methodLink "SecretsWorth" (685 : Nat) ({ cls := "SecretsWorth$Sheet", name := "set", desc := "(IJ)V" } : Jvm.MethodName)) ∈ lw_all := lw_g (lw_at lw_m7 159 rfl) rfl
theorem q1731 : (Jvm.Cond.instanceMethod ({ cls := "SecretsWorth$Sheet", name := "set", desc := "(IJ)V" } : Jvm.MethodName)) ∈ lw_all := lw_g (lw_at lw_m7 160 rfl) rfl
theorem q1732 : (Jvm.Cond.selects "SecretsWorth$Sheet" ({ cls := "SecretsWorth$Sheet", name := "set", desc := "(IJ)V" } : Jvm.MethodName) ({ cls := "SecretsWorth$Sheet", name := "set", desc := "(IJ)V" } : Jvm.MethodName)) ∈ lw_all := lw_g (lw_at lw_m7 161 rfl) rfl
theorem q1733 : (Jvm.Cond.codeWith ({ cls := "SecretsWorth$Sheet", name := "set", desc := "(IJ)V" } : Jvm.MethodName) prog_7_method_5_code (5 : Nat) (Option.none : Option Jvm.ClassFile.FieldType) [((0 : Nat), (35 : Nat), (38 : Nat), (19 : Nat)), ((0 : Nat), (35 : Nat), (50 : Nat), (26 : Nat))]) ∈ lw_all := lw_g (lw_at lw_m7 162 rfl) rfl
theorem q1734 : (Jvm.Cond.methodLink "SecretsWorthLaw" (165 : Nat) ({ cls := "SecretsWorth", name := "number", desc := "(II)J" } : Jvm.MethodName)) ∈ lw_all := lw_g (lw_at lw_m7 163 rfl) rfl
theorem q1735 : (Jvm.Cond.instanceMethod ({ cls := "SecretsWorth", name := "number", desc := "(II)J" } : Jvm.MethodName)) ∈ lw_all := lw_g (lw_at lw_m7 164 rfl) rfl
theorem q1736 : (Jvm.Cond.selects "SecretsWorth" ({ cls := "SecretsWorth", name := "number", desc := "(II)J" } : Jvm.MethodName) ({ cls := "SecretsWorth", name := "number", desc := "(II)J" } : Jvm.MethodName)) ∈ lw_all := lw_g (lw_at lw_m7 165 rfl) rfl
theorem q1737 : (Jvm.Cond.codeWith ({ cls := "SecretsWorth", name := "number", desc := "(II)J" } : Jvm.MethodName) prog_1_method_106_code (4 : Nat) (Option.some Jvm.ClassFile.FieldType.long) [((0 : Nat), (17 : Nat), (18 : Nat), (1 : Nat))]) ∈ lw_all := lw_g (lw_at lw_m7 166 rfl) rfl
theorem q1738 : (Jvm.Cond.methodLink "SecretsWorthLaw" (169 : Nat) ({ cls := "SecretsWorth", name := "seed", desc := "(I)I" } : Jvm.MethodName)) ∈ lw_all := lw_g (lw_at lw_m7 167 rfl) rfl
theorem q1739 : (Jvm.Cond.instanceMethod ({ cls := "SecretsWorth", name := "seed", desc := "(I)I" } : Jvm.MethodName)) ∈ lw_all := lw_g (lw_at lw_m7 168 rfl) rfl
theorem q1740 : (Jvm.Cond.selects "SecretsWorth" ({ cls := "SecretsWorth", name := "seed", desc := "(I)I" } : Jvm.MethodName) ({ cls := "SecretsWorth", name := "seed", desc := "(I)I" } : Jvm.MethodName)) ∈ lw_all := lw_g (lw_at lw_m7 169 rfl) rfl
theorem q1741 : (Jvm.Cond.code ({ cls := "SecretsWorth", name := "seed", desc := "(I)I" } : Jvm.MethodName) prog_1_method_107_code (3 : Nat) (Option.some Jvm.ClassFile.FieldType.int)) ∈ lw_all := lw_g (lw_at lw_m7 170 rfl) rfl
theorem q1742 : (Jvm.Cond.methodLink "SecretsWorthLaw" (173 : Nat) ({ cls := "SecretsWorth", name := "image", desc := "()I" } : Jvm.MethodName)) ∈ lw_all := lw_g (lw_at lw_m7 171 rfl) rfl
theorem q1743 : (Jvm.Cond.instanceMethod ({ cls := "SecretsWorth", name := "image", desc := "()I" } : Jvm.MethodName)) ∈ lw_all := lw_g (lw_at lw_m7 172 rfl) rfl
theorem q1744 : (Jvm.Cond.selects "SecretsWorth" ({ cls := "SecretsWorth", name := "image", desc := "()I" } : Jvm.MethodName) ({ cls := "SecretsWorth", name := "image", desc := "()I" } : Jvm.MethodName)) ∈ lw_all := lw_g (lw_at lw_m7 173 rfl) rfl
theorem q1745 : (Jvm.Cond.code ({ cls := "SecretsWorth", name := "image", desc := "()I" } : Jvm.MethodName) prog_1_method_108_code (1 : Nat) (Option.some Jvm.ClassFile.FieldType.int)) ∈ lw_all := lw_g (lw_at lw_m7 174 rfl) rfl
theorem q1746 : (Jvm.Cond.methodLink "SecretsWorthLaw" (177 : Nat) ({ cls := "SecretsWorth", name := "restore", desc := "()I" } : Jvm.MethodName)) ∈ lw_all := lw_g (lw_at lw_m7 175 rfl) rfl
theorem q1747 : (Jvm.Cond.instanceMethod ({ cls := "SecretsWorth", name := "restore", desc := "()I" } : Jvm.MethodName)) ∈ lw_all := lw_g (lw_at lw_m7 176 rfl) rfl
theorem q1748 : (Jvm.Cond.selects "SecretsWorth" ({ cls := "SecretsWorth", name := "restore", desc := "()I" } : Jvm.MethodName) ({ cls := "SecretsWorth", name := "restore", desc := "()I" } : Jvm.MethodName)) ∈ lw_all := lw_g (lw_at lw_m7 177 rfl) rfl
theorem q1749 : (Jvm.Cond.codeWith ({ cls := "SecretsWorth", name := "restore", desc := "()I" } : Jvm.MethodName) prog_1_method_109_code (2 : Nat) (Option.some Jvm.ClassFile.FieldType.int) [((0 : Nat), (47 : Nat), (48 : Nat), (1 : Nat))]) ∈ lw_all := lw_g (lw_at lw_m7 178 rfl) rfl
theorem q1750 : (Jvm.Cond.methodLink "SecretsWorthLaw" (181 : Nat) ({ cls := "SecretsWorth", name := "count", desc := "(I)I" } : Jvm.MethodName)) ∈ lw_all := lw_g (lw_at lw_m7 179 rfl) rfl
theorem q1751 : (Jvm.Cond.instanceMethod ({ cls := "SecretsWorth", name := "count", desc := "(I)I" } : Jvm.MethodName)) ∈ lw_all := lw_g (lw_at lw_m7 180 rfl) rfl
theorem q1752 : (Jvm.Cond.selects "SecretsWorth" ({ cls := "SecretsWorth", name := "count", desc := "(I)I" } : Jvm.MethodName) ({ cls := "SecretsWorth", name := "count", desc := "(I)I" } : Jvm.MethodName)) ∈ lw_all := lw_g (lw_at lw_m7 181 rfl) rfl
theorem q1753 : (Jvm.Cond.codeWith ({ cls := "SecretsWorth", name := "count", desc := "(I)I" } : Jvm.MethodName) prog_1_method_110_code (3 : Nat) (Option.some Jvm.ClassFile.FieldType.int) [((0 : Nat), (129 : Nat), (130 : Nat), (1 : Nat))]) ∈ lw_all := lw_g (lw_at lw_m7 182 rfl) rfl
theorem q1754 : (Jvm.Cond.constantLong "SecretsWorth" (694 : Nat) (7 : Int64)) ∈ lw_all := lw_g (lw_at lw_m7 183 rfl) rfl
theorem q1755 : (Jvm.Cond.methodLink "SecretsWorthLaw" (185 : Nat) ({ cls := "SecretsWorth", name := "told", desc := "(I)I" } : Jvm.MethodName)) ∈ lw_all := lw_g (lw_at lw_m7 184 rfl) rfl
theorem q1756 : (Jvm.Cond.instanceMethod ({ cls := "SecretsWorth", name := "told", desc := "(I)I" } : Jvm.MethodName)) ∈ lw_all := lw_g (lw_at lw_m7 185 rfl) rfl
theorem q1757 : (Jvm.Cond.selects "SecretsWorth" ({ cls := "SecretsWorth", name := "told", desc := "(I)I" } : Jvm.MethodName) ({ cls := "SecretsWorth", name := "told", desc := "(I)I" } : Jvm.MethodName)) ∈ lw_all := lw_g (lw_at lw_m7 186 rfl) rfl
theorem q1758 : (Jvm.Cond.codeWith ({ cls := "SecretsWorth", name := "told", desc := "(I)I" } : Jvm.MethodName) prog_1_method_111_code (3 : Nat) (Option.some Jvm.ClassFile.FieldType.int) [((0 : Nat), (18 : Nat), (19 : Nat), (1 : Nat))]) ∈ lw_all := lw_g (lw_at lw_m7 187 rfl) rfl
theorem q1759 : (Jvm.Cond.constantLong "SecretsWorth" (696 : Nat) (8 : Int64)) ∈ lw_all := lw_g (lw_at lw_m7 188 rfl) rfl
theorem q1760 : (Jvm.Cond.classLink "SecretsWorthLaw" (10 : Nat) "SecretsWorthModel") ∈ lw_all := lw_g (lw_at lw_m7 189 rfl) rfl
theorem q1761 : (Jvm.Cond.instantiable "SecretsWorthModel" (54 : Nat)) ∈ lw_all := lw_g (lw_at lw_m7 190 rfl) rfl
theorem q1762 : (Jvm.Cond.methodLink "SecretsWorthLaw" (12 : Nat) ({ cls := "SecretsWorthModel", name := "<init>", desc := "()V" } : Jvm.MethodName)) ∈ lw_all := lw_g (lw_at lw_m7 191 rfl) rfl
theorem q1763 : (Jvm.Cond.instanceMethod ({ cls := "SecretsWorthModel", name := "<init>", desc := "()V" } : Jvm.MethodName)) ∈ lw_all := lw_g (lw_at lw_m7 192 rfl) rfl
theorem q1764 : (Jvm.Cond.code ({ cls := "SecretsWorthModel", name := "<init>", desc := "()V" } : Jvm.MethodName) prog_11_method_1_code (1 : Nat) (Option.none : Option Jvm.ClassFile.FieldType)) ∈ lw_all := lw_g (lw_at lw_m7 193 rfl) rfl
theorem q1765 : (Jvm.Cond.methodLink "SecretsWorthModel" (1 : Nat) ({ cls := "java/lang/Object", name := "<init>", desc := "()V" } : Jvm.MethodName)) ∈ lw_all := lw_g (lw_at lw_m7 194 rfl) rfl
theorem q1766 : (Jvm.Cond.fieldLink "SecretsWorthModel" (7 : Nat) "SecretsWorthModel" "found" "[I") ∈ lw_all := lw_g (lw_at lw_m7 195 rfl) rfl
theorem q1767 : (Jvm.Cond.fieldLink "SecretsWorthModel" (13 : Nat) "SecretsWorthModel" "s" "[I") ∈ lw_all := lw_g (lw_at lw_m7 196 rfl) rfl
theorem q1768 : (Jvm.Cond.fieldLink "SecretsWorthModel" (16 : Nat) "SecretsWorthModel" "kept" "[I") ∈ lw_all := lw_g (lw_at lw_m7 197 rfl) rfl
theorem q1769 : (Jvm.Cond.fieldLink "SecretsWorthModel" (19 : Nat) "SecretsWorthModel" "ahead" "[I") ∈ lw_all := lw_g (lw_at lw_m7 198 rfl) rfl
theorem q1770 : (Jvm.Cond.fieldLink "SecretsWorthModel" (493 : Nat) "SecretsWorthModel" "images" "I") ∈ lw_all := lw_g (lw_at lw_m7 199 rfl) rfl
theorem q1771 : (Jvm.Cond.fieldLink "SecretsWorthModel" (131 : Nat) "SecretsWorthModel" "isPlay" "Z") ∈ lw_all := lw_g (lw_at lw_m7 200 rfl) rfl
theorem q1772 : (Jvm.Cond.fieldLink "SecretsWorthModel" (473 : Nat) "SecretsWorthModel" "played" "I") ∈ lw_all := lw_g (lw_at lw_m7 201 rfl) rfl
theorem q1773 : (Jvm.Cond.fieldLink "SecretsWorthModel" (22 : Nat) "SecretsWorthModel" "sums" "[I") ∈ lw_all := lw_g (lw_at lw_m7 202 rfl) rfl
theorem q1774 : (Jvm.Cond.fieldLink "SecretsWorthModel" (25 : Nat) "SecretsWorthModel" "past" "[I") ∈ lw_all := lw_g (lw_at lw_m7 203 rfl) rfl
theorem q1775 : (Jvm.Cond.fieldLink "SecretsWorthModel" (28 : Nat) "SecretsWorthModel" "tape" "[I") ∈ lw_all := lw_g (lw_at lw_m7 204 rfl) rfl
theorem q1776 : (Jvm.Cond.fieldLink "SecretsWorthModel" (326 : Nat) "SecretsWorthModel" "taped" "I") ∈ lw_all := lw_g (lw_at lw_m7 205 rfl) rfl
theorem q1777 : (Jvm.Cond.fieldLink "SecretsWorthModel" (31 : Nat) "SecretsWorthModel" "line" "[I") ∈ lw_all := lw_g (lw_at lw_m7 206 rfl) rfl
theorem q1778 : (Jvm.Cond.fieldLink "SecretsWorthModel" (34 : Nat) "SecretsWorthModel" "writing" "[I") ∈ lw_all := lw_g (lw_at lw_m7 207 rfl) rfl
theorem q1779 : (Jvm.Cond.fieldLink "SecretsWorthModel" (470 : Nat) "SecretsWorthModel" "lineMany" "I") ∈ lw_all := lw_g (lw_at lw_m7 208 rfl) rfl
theorem q1780 : (Jvm.Cond.fieldLink "SecretsWorthModel" (438 : Nat) "SecretsWorthModel" "writes" "I") ∈ lw_all := lw_g (lw_at lw_m7 209 rfl) rfl
theorem q1781 : (Jvm.Cond.fieldLink "SecretsWorthModel" (37 : Nat) "SecretsWorthModel" "sheetRow" "[J") ∈ lw_all := lw_g (lw_at lw_m7 210 rfl) rfl
theorem q1782 : (Jvm.Cond.fieldLink "SecretsWorthModel" (41 : Nat) "SecretsWorthModel" "sheetBits" "[I") ∈ lw_all := lw_g (lw_at lw_m7 211 rfl) rfl
theorem q1783 : (Jvm.Cond.fieldLink "SecretsWorthModel" (44 : Nat) "SecretsWorthModel" "sheetMany" "[I") ∈ lw_all := lw_g (lw_at lw_m7 212 rfl) rfl
theorem q1784 : (Jvm.Cond.fieldLink "SecretsWorthModel" (103 : Nat) "SecretsWorthModel" "up" "J") ∈ lw_all := lw_g (lw_at lw_m7 213 rfl) rfl
theorem q1785 : (Jvm.Cond.fieldLink "SecretsWorthModel" (107 : Nat) "SecretsWorthModel" "down" "J") ∈ lw_all := lw_g (lw_at lw_m7 214 rfl) rfl
theorem q1786 : (Jvm.Cond.fieldLink "SecretsWorthModel" (96 : Nat) "SecretsWorthModel" "isBig" "Z") ∈ lw_all := lw_g (lw_at lw_m7 215 rfl) rfl
theorem q1787 : (Jvm.Cond.fieldLink "SecretsWorthModel" (47 : Nat) "SecretsWorthModel" "table" "[J") ∈ lw_all := lw_g (lw_at lw_m7 216 rfl) rfl
theorem q1788 : (Jvm.Cond.fieldLink "SecretsWorthModel" (208 : Nat) "SecretsWorthModel" "tableRows" "I") ∈ lw_all := lw_g (lw_at lw_m7 217 rfl) rfl
theorem q1789 : (Jvm.Cond.fieldLink "SecretsWorthModel" (211 : Nat) "SecretsWorthModel" "tableColumns" "I") ∈ lw_all := lw_g (lw_at lw_m7 218 rfl) rfl
theorem q1790 : (Jvm.Cond.fieldLink "SecretsWorthModel" (185 : Nat) "SecretsWorthModel" "square" "I") ∈ lw_all := lw_g (lw_at lw_m7 219 rfl) rfl
theorem q1791 : (Jvm.Cond.fieldLink "SecretsWorthModel" (50 : Nat) "SecretsWorthModel" "rows" "[I") ∈ lw_all := lw_g (lw_at lw_m7 220 rfl) rfl
theorem q1792 : (Jvm.Cond.fieldLink "SecretsWorthModel" (53 : Nat) "SecretsWorthModel" "columns" "[I") ∈ lw_all := lw_g (lw_at lw_m7 221 rfl) rfl
theorem q1793 : (Jvm.Cond.fieldLink "SecretsWorthModel" (56 : Nat) "SecretsWorthModel" "rowWeight" "[J") ∈ lw_all := lw_g (lw_at lw_m7 222 rfl) rfl
theorem q1794 : (Jvm.Cond.fieldLink "SecretsWorthModel" (59 : Nat) "SecretsWorthModel" "columnWeight" "[J") ∈ lw_all := lw_g (lw_at lw_m7 223 rfl) rfl
theorem q1795 : (Jvm.Cond.fieldLink "SecretsWorthModel" (202 : Nat) "SecretsWorthModel" "total" "J") ∈ lw_all := lw_g (lw_at lw_m7 224 rfl) rfl
theorem q1796 : (Jvm.Cond.fieldLink "SecretsWorthModel" (205 : Nat) "SecretsWorthModel" "worth" "J") ∈ lw_all := lw_g (lw_at lw_m7 225 rfl) rfl
theorem q1797 : (Jvm.Cond.fieldLink "SecretsWorthModel" (62 : Nat) "SecretsWorthModel" "partial" "[J") ∈ lw_all := lw_g (lw_at lw_m7 226 rfl) rfl
theorem q1798 : (Jvm.Cond.fieldLink "SecretsWorthModel" (65 : Nat) "SecretsWorthModel" "valueUp" "[J") ∈ lw_all := lw_g (lw_at lw_m7 227 rfl) rfl
theorem q1799 : (Jvm.Cond.fieldLink "SecretsWorthModel" (68 : Nat) "SecretsWorthModel" "valueDown" "[J") ∈ lw_all := lw_g (lw_at lw_m7 228 rfl) rfl
theorem q1800 : (Jvm.Cond.fieldLink "SecretsWorthModel" (71 : Nat) "SecretsWorthModel" "isKnown" "[Z") ∈ lw_all := lw_g (lw_at lw_m7 229 rfl) rfl
theorem q1801 : (Jvm.Cond.fieldLink "SecretsWorthModel" (75 : Nat) "SecretsWorthModel" "told" "[I") ∈ lw_all := lw_g (lw_at lw_m7 230 rfl) rfl
theorem q1802 : (Jvm.Cond.fieldLink "SecretsWorthModel" (245 : Nat) "SecretsWorthModel" "toldMany" "I") ∈ lw_all := lw_g (lw_at lw_m7 231 rfl) rfl
theorem q1803 : (Jvm.Cond.fieldLink "SecretsWorthModel" (78 : Nat) "SecretsWorthModel" "weigh" "[J") ∈ lw_all := lw_g (lw_at lw_m7 232 rfl) rfl
theorem q1804 : (Jvm.Cond.fieldLink "SecretsWorthModel" (248 : Nat) "SecretsWorthModel" "weighDown" "J") ∈ lw_all := lw_g (lw_at lw_m7 233 rfl) rfl
theorem q1805 : (Jvm.Cond.fieldLink "SecretsWorthModel" (81 : Nat) "SecretsWorthModel" "best" "[I") ∈ lw_all := lw_g (lw_at lw_m7 234 rfl) rfl
theorem q1806 : (Jvm.Cond.fieldLink "SecretsWorthModel" (84 : Nat) "SecretsWorthModel" "bestWeight" "[J") ∈ lw_all := lw_g (lw_at lw_m7 235 rfl) rfl
theorem q1807 : (Jvm.Cond.fieldLink "SecretsWorthModel" (289 : Nat) "SecretsWorthModel" "bestMany" "I") ∈ lw_all := lw_g (lw_at lw_m7 236 rfl) rfl
theorem q1808 : (Jvm.Cond.fieldLink "SecretsWorthModel" (301 : Nat) "SecretsWorthModel" "bestDown" "J") ∈ lw_all := lw_g (lw_at lw_m7 237 rfl) rfl
theorem q1809 : (Jvm.Cond.fieldLink "SecretsWorthModel" (292 : Nat) "SecretsWorthModel" "hullUp" "J") ∈ lw_all := lw_g (lw_at lw_m7 238 rfl) rfl
theorem q1810 : (Jvm.Cond.fieldLink "SecretsWorthModel" (295 : Nat) "SecretsWorthModel" "hullDown" "J") ∈ lw_all := lw_g (lw_at lw_m7 239 rfl) rfl
theorem q1811 : (Jvm.Cond.fieldLink "SecretsWorthModel" (329 : Nat) "SecretsWorthModel" "at" "I") ∈ lw_all := lw_g (lw_at lw_m8 0 rfl) rfl
theorem q1812 : (Jvm.Cond.fieldLink "SecretsWorthModel" (331 : Nat) "SecretsWorthModel" "ended" "I") ∈ lw_all := lw_g (lw_at lw_m8 1 rfl) rfl
theorem q1813 : (Jvm.Cond.fieldLink "SecretsWorthModel" (337 : Nat) "SecretsWorthModel" "tokenAt" "I") ∈ lw_all := lw_g (lw_at lw_m8 2 rfl) rfl
theorem q1814 : (Jvm.Cond.fieldLink "SecretsWorthModel" (340 : Nat) "SecretsWorthModel" "token" "I") ∈ lw_all := lw_g (lw_at lw_m8 3 rfl) rfl
theorem q1815 : (Jvm.Cond.fieldLink "SecretsWorthModel" (355 : Nat) "SecretsWorthModel" "number" "I") ∈ lw_all := lw_g (lw_at lw_m8 4 rfl) rfl
theorem q1816 : (Jvm.Cond.fieldLink "SecretsWorthModel" (334 : Nat) "SecretsWorthModel" "wrong" "I") ∈ lw_all := lw_g (lw_at lw_m8 5 rfl) rfl
theorem q1817 : (Jvm.Cond.fieldLink "SecretsWorthModel" (346 : Nat) "SecretsWorthModel" "wordFrom" "I") ∈ lw_all := lw_g (lw_at lw_m8 6 rfl) rfl
theorem q1818 : (Jvm.Cond.fieldLink "SecretsWorthModel" (349 : Nat) "SecretsWorthModel" "wordTo" "I") ∈ lw_all := lw_g (lw_at lw_m8 7 rfl) rfl
theorem q1819 : (Jvm.Cond.fieldLink "SecretsWorthModel" (386 : Nat) "SecretsWorthModel" "toldAnew" "Z") ∈ lw_all := lw_g (lw_at lw_m8 8 rfl) rfl
theorem q1820 : (Jvm.Cond.laysFinal "SecretsWorthModel" "SecretsWorthModel" "found" "[I") ∈ lw_all := lw_g (lw_at lw_m8 9 rfl) rfl
theorem q1821 : (Jvm.Cond.soleField "SecretsWorthModel" "found") ∈ lw_all := lw_g (lw_at lw_m8 10 rfl) rfl
theorem q1822 : (Jvm.Cond.laysFinal "SecretsWorthModel" "SecretsWorthModel" "s" "[I") ∈ lw_all := lw_g (lw_at lw_m8 11 rfl) rfl
theorem q1823 : (Jvm.Cond.soleField "SecretsWorthModel" "s") ∈ lw_all := lw_g (lw_at lw_m8 12 rfl) rfl
theorem q1824 : (Jvm.Cond.laysFinal "SecretsWorthModel" "SecretsWorthModel" "kept" "[I") ∈ lw_all := lw_g (lw_at lw_m8 13 rfl) rfl
theorem q1825 : (Jvm.Cond.soleField "SecretsWorthModel" "kept") ∈ lw_all := lw_g (lw_at lw_m8 14 rfl) rfl
theorem q1826 : (Jvm.Cond.laysFinal "SecretsWorthModel" "SecretsWorthModel" "ahead" "[I") ∈ lw_all := lw_g (lw_at lw_m8 15 rfl) rfl
theorem q1827 : (Jvm.Cond.soleField "SecretsWorthModel" "ahead") ∈ lw_all := lw_g (lw_at lw_m8 16 rfl) rfl
theorem q1828 : (Jvm.Cond.lays "SecretsWorthModel" "SecretsWorthModel" "images" "I") ∈ lw_all := lw_g (lw_at lw_m8 17 rfl) rfl
theorem q1829 : (Jvm.Cond.soleField "SecretsWorthModel" "images") ∈ lw_all := lw_g (lw_at lw_m8 18 rfl) rfl
theorem q1830 : (Jvm.Cond.lays "SecretsWorthModel" "SecretsWorthModel" "isPlay" "Z") ∈ lw_all := lw_g (lw_at lw_m8 19 rfl) rfl
theorem q1831 : (Jvm.Cond.soleField "SecretsWorthModel" "isPlay") ∈ lw_all := lw_g (lw_at lw_m8 20 rfl) rfl
theorem q1832 : (Jvm.Cond.lays "SecretsWorthModel" "SecretsWorthModel" "played" "I") ∈ lw_all := lw_g (lw_at lw_m8 21 rfl) rfl
theorem q1833 : (Jvm.Cond.soleField "SecretsWorthModel" "played") ∈ lw_all := lw_g (lw_at lw_m8 22 rfl) rfl
theorem q1834 : (Jvm.Cond.laysFinal "SecretsWorthModel" "SecretsWorthModel" "sums" "[I") ∈ lw_all := lw_g (lw_at lw_m8 23 rfl) rfl
theorem q1835 : (Jvm.Cond.soleField "SecretsWorthModel" "sums") ∈ lw_all := lw_g (lw_at lw_m8 24 rfl) rfl
theorem q1836 : (Jvm.Cond.laysFinal "SecretsWorthModel" "SecretsWorthModel" "past" "[I") ∈ lw_all := lw_g (lw_at lw_m8 25 rfl) rfl
theorem q1837 : (Jvm.Cond.soleField "SecretsWorthModel" "past") ∈ lw_all := lw_g (lw_at lw_m8 26 rfl) rfl
theorem q1838 : (Jvm.Cond.laysFinal "SecretsWorthModel" "SecretsWorthModel" "tape" "[I") ∈ lw_all := lw_g (lw_at lw_m8 27 rfl) rfl
theorem q1839 : (Jvm.Cond.soleField "SecretsWorthModel" "tape") ∈ lw_all := lw_g (lw_at lw_m8 28 rfl) rfl
theorem q1840 : (Jvm.Cond.lays "SecretsWorthModel" "SecretsWorthModel" "taped" "I") ∈ lw_all := lw_g (lw_at lw_m8 29 rfl) rfl
theorem q1841 : (Jvm.Cond.soleField "SecretsWorthModel" "taped") ∈ lw_all := lw_g (lw_at lw_m8 30 rfl) rfl
theorem q1842 : (Jvm.Cond.laysFinal "SecretsWorthModel" "SecretsWorthModel" "line" "[I") ∈ lw_all := lw_g (lw_at lw_m8 31 rfl) rfl
theorem q1843 : (Jvm.Cond.soleField "SecretsWorthModel" "line") ∈ lw_all := lw_g (lw_at lw_m8 32 rfl) rfl
theorem q1844 : (Jvm.Cond.laysFinal "SecretsWorthModel" "SecretsWorthModel" "writing" "[I") ∈ lw_all := lw_g (lw_at lw_m8 33 rfl) rfl
theorem q1845 : (Jvm.Cond.soleField "SecretsWorthModel" "writing") ∈ lw_all := lw_g (lw_at lw_m8 34 rfl) rfl
theorem q1846 : (Jvm.Cond.lays "SecretsWorthModel" "SecretsWorthModel" "lineMany" "I") ∈ lw_all := lw_g (lw_at lw_m8 35 rfl) rfl
theorem q1847 : (Jvm.Cond.soleField "SecretsWorthModel" "lineMany") ∈ lw_all := lw_g (lw_at lw_m8 36 rfl) rfl
theorem q1848 : (Jvm.Cond.lays "SecretsWorthModel" "SecretsWorthModel" "writes" "I") ∈ lw_all := lw_g (lw_at lw_m8 37 rfl) rfl
theorem q1849 : (Jvm.Cond.soleField "SecretsWorthModel" "writes") ∈ lw_all := lw_g (lw_at lw_m8 38 rfl) rfl
theorem q1850 : (Jvm.Cond.laysFinal "SecretsWorthModel" "SecretsWorthModel" "sheetRow" "[J") ∈ lw_all := lw_g (lw_at lw_m8 39 rfl) rfl
theorem q1851 : (Jvm.Cond.soleField "SecretsWorthModel" "sheetRow") ∈ lw_all := lw_g (lw_at lw_m8 40 rfl) rfl
theorem q1852 : (Jvm.Cond.laysFinal "SecretsWorthModel" "SecretsWorthModel" "sheetBits" "[I") ∈ lw_all := lw_g (lw_at lw_m8 41 rfl) rfl
theorem q1853 : (Jvm.Cond.soleField "SecretsWorthModel" "sheetBits") ∈ lw_all := lw_g (lw_at lw_m8 42 rfl) rfl
theorem q1854 : (Jvm.Cond.laysFinal "SecretsWorthModel" "SecretsWorthModel" "sheetMany" "[I") ∈ lw_all := lw_g (lw_at lw_m8 43 rfl) rfl
theorem q1855 : (Jvm.Cond.soleField "SecretsWorthModel" "sheetMany") ∈ lw_all := lw_g (lw_at lw_m8 44 rfl) rfl
theorem q1856 : (Jvm.Cond.lays "SecretsWorthModel" "SecretsWorthModel" "up" "J") ∈ lw_all := lw_g (lw_at lw_m8 45 rfl) rfl
theorem q1857 : (Jvm.Cond.soleField "SecretsWorthModel" "up") ∈ lw_all := lw_g (lw_at lw_m8 46 rfl) rfl
theorem q1858 : (Jvm.Cond.lays "SecretsWorthModel" "SecretsWorthModel" "down" "J") ∈ lw_all := lw_g (lw_at lw_m8 47 rfl) rfl
theorem q1859 : (Jvm.Cond.soleField "SecretsWorthModel" "down") ∈ lw_all := lw_g (lw_at lw_m8 48 rfl) rfl
theorem q1860 : (Jvm.Cond.lays "SecretsWorthModel" "SecretsWorthModel" "isBig" "Z") ∈ lw_all := lw_g (lw_at lw_m8 49 rfl) rfl
theorem q1861 : (Jvm.Cond.soleField "SecretsWorthModel" "isBig") ∈ lw_all := lw_g (lw_at lw_m8 50 rfl) rfl
theorem q1862 : (Jvm.Cond.laysFinal "SecretsWorthModel" "SecretsWorthModel" "table" "[J") ∈ lw_all := lw_g (lw_at lw_m8 51 rfl) rfl
theorem q1863 : (Jvm.Cond.soleField "SecretsWorthModel" "table") ∈ lw_all := lw_g (lw_at lw_m8 52 rfl) rfl
theorem q1864 : (Jvm.Cond.lays "SecretsWorthModel" "SecretsWorthModel" "tableRows" "I") ∈ lw_all := lw_g (lw_at lw_m8 53 rfl) rfl
theorem q1865 : (Jvm.Cond.soleField "SecretsWorthModel" "tableRows") ∈ lw_all := lw_g (lw_at lw_m8 54 rfl) rfl
theorem q1866 : (Jvm.Cond.lays "SecretsWorthModel" "SecretsWorthModel" "tableColumns" "I") ∈ lw_all := lw_g (lw_at lw_m8 55 rfl) rfl
theorem q1867 : (Jvm.Cond.soleField "SecretsWorthModel" "tableColumns") ∈ lw_all := lw_g (lw_at lw_m8 56 rfl) rfl
theorem q1868 : (Jvm.Cond.lays "SecretsWorthModel" "SecretsWorthModel" "square" "I") ∈ lw_all := lw_g (lw_at lw_m8 57 rfl) rfl
theorem q1869 : (Jvm.Cond.soleField "SecretsWorthModel" "square") ∈ lw_all := lw_g (lw_at lw_m8 58 rfl) rfl
theorem q1870 : (Jvm.Cond.laysFinal "SecretsWorthModel" "SecretsWorthModel" "rows" "[I") ∈ lw_all := lw_g (lw_at lw_m8 59 rfl) rfl
theorem q1871 : (Jvm.Cond.soleField "SecretsWorthModel" "rows") ∈ lw_all := lw_g (lw_at lw_m8 60 rfl) rfl
theorem q1872 : (Jvm.Cond.laysFinal "SecretsWorthModel" "SecretsWorthModel" "columns" "[I") ∈ lw_all := lw_g (lw_at lw_m8 61 rfl) rfl
theorem q1873 : (Jvm.Cond.soleField "SecretsWorthModel" "columns") ∈ lw_all := lw_g (lw_at lw_m8 62 rfl) rfl
theorem q1874 : (Jvm.Cond.laysFinal "SecretsWorthModel" "SecretsWorthModel" "rowWeight" "[J") ∈ lw_all := lw_g (lw_at lw_m8 63 rfl) rfl
theorem q1875 : (Jvm.Cond.soleField "SecretsWorthModel" "rowWeight") ∈ lw_all := lw_g (lw_at lw_m8 64 rfl) rfl
theorem q1876 : (Jvm.Cond.laysFinal "SecretsWorthModel" "SecretsWorthModel" "columnWeight" "[J") ∈ lw_all := lw_g (lw_at lw_m8 65 rfl) rfl
theorem q1877 : (Jvm.Cond.soleField "SecretsWorthModel" "columnWeight") ∈ lw_all := lw_g (lw_at lw_m8 66 rfl) rfl
theorem q1878 : (Jvm.Cond.lays "SecretsWorthModel" "SecretsWorthModel" "total" "J") ∈ lw_all := lw_g (lw_at lw_m8 67 rfl) rfl
theorem q1879 : (Jvm.Cond.soleField "SecretsWorthModel" "total") ∈ lw_all := lw_g (lw_at lw_m8 68 rfl) rfl
theorem q1880 : (Jvm.Cond.lays "SecretsWorthModel" "SecretsWorthModel" "worth" "J") ∈ lw_all := lw_g (lw_at lw_m8 69 rfl) rfl
theorem q1881 : (Jvm.Cond.soleField "SecretsWorthModel" "worth") ∈ lw_all := lw_g (lw_at lw_m8 70 rfl) rfl
theorem q1882 : (Jvm.Cond.laysFinal "SecretsWorthModel" "SecretsWorthModel" "partial" "[J") ∈ lw_all := lw_g (lw_at lw_m8 71 rfl) rfl
theorem q1883 : (Jvm.Cond.soleField "SecretsWorthModel" "partial") ∈ lw_all := lw_g (lw_at lw_m8 72 rfl) rfl
theorem q1884 : (Jvm.Cond.laysFinal "SecretsWorthModel" "SecretsWorthModel" "valueUp" "[J") ∈ lw_all := lw_g (lw_at lw_m8 73 rfl) rfl
theorem q1885 : (Jvm.Cond.soleField "SecretsWorthModel" "valueUp") ∈ lw_all := lw_g (lw_at lw_m8 74 rfl) rfl
theorem q1886 : (Jvm.Cond.laysFinal "SecretsWorthModel" "SecretsWorthModel" "valueDown" "[J") ∈ lw_all := lw_g (lw_at lw_m8 75 rfl) rfl
theorem q1887 : (Jvm.Cond.soleField "SecretsWorthModel" "valueDown") ∈ lw_all := lw_g (lw_at lw_m8 76 rfl) rfl
theorem q1888 : (Jvm.Cond.laysFinal "SecretsWorthModel" "SecretsWorthModel" "isKnown" "[Z") ∈ lw_all := lw_g (lw_at lw_m8 77 rfl) rfl
theorem q1889 : (Jvm.Cond.soleField "SecretsWorthModel" "isKnown") ∈ lw_all := lw_g (lw_at lw_m8 78 rfl) rfl
theorem q1890 : (Jvm.Cond.laysFinal "SecretsWorthModel" "SecretsWorthModel" "told" "[I") ∈ lw_all := lw_g (lw_at lw_m8 79 rfl) rfl
theorem q1891 : (Jvm.Cond.soleField "SecretsWorthModel" "told") ∈ lw_all := lw_g (lw_at lw_m8 80 rfl) rfl
theorem q1892 : (Jvm.Cond.lays "SecretsWorthModel" "SecretsWorthModel" "toldMany" "I") ∈ lw_all := lw_g (lw_at lw_m8 81 rfl) rfl
theorem q1893 : (Jvm.Cond.soleField "SecretsWorthModel" "toldMany") ∈ lw_all := lw_g (lw_at lw_m8 82 rfl) rfl
theorem q1894 : (Jvm.Cond.laysFinal "SecretsWorthModel" "SecretsWorthModel" "weigh" "[J") ∈ lw_all := lw_g (lw_at lw_m8 83 rfl) rfl
theorem q1895 : (Jvm.Cond.soleField "SecretsWorthModel" "weigh") ∈ lw_all := lw_g (lw_at lw_m8 84 rfl) rfl
theorem q1896 : (Jvm.Cond.lays "SecretsWorthModel" "SecretsWorthModel" "weighDown" "J") ∈ lw_all := lw_g (lw_at lw_m8 85 rfl) rfl
theorem q1897 : (Jvm.Cond.soleField "SecretsWorthModel" "weighDown") ∈ lw_all := lw_g (lw_at lw_m8 86 rfl) rfl
theorem q1898 : (Jvm.Cond.laysFinal "SecretsWorthModel" "SecretsWorthModel" "best" "[I") ∈ lw_all := lw_g (lw_at lw_m8 87 rfl) rfl
theorem q1899 : (Jvm.Cond.soleField "SecretsWorthModel" "best") ∈ lw_all := lw_g (lw_at lw_m8 88 rfl) rfl
theorem q1900 : (Jvm.Cond.laysFinal "SecretsWorthModel" "SecretsWorthModel" "bestWeight" "[J") ∈ lw_all := lw_g (lw_at lw_m8 89 rfl) rfl
theorem q1901 : (Jvm.Cond.soleField "SecretsWorthModel" "bestWeight") ∈ lw_all := lw_g (lw_at lw_m8 90 rfl) rfl
theorem q1902 : (Jvm.Cond.lays "SecretsWorthModel" "SecretsWorthModel" "bestMany" "I") ∈ lw_all := lw_g (lw_at lw_m8 91 rfl) rfl
theorem q1903 : (Jvm.Cond.soleField "SecretsWorthModel" "bestMany") ∈ lw_all := lw_g (lw_at lw_m8 92 rfl) rfl
theorem q1904 : (Jvm.Cond.lays "SecretsWorthModel" "SecretsWorthModel" "bestDown" "J") ∈ lw_all := lw_g (lw_at lw_m8 93 rfl) rfl
theorem q1905 : (Jvm.Cond.soleField "SecretsWorthModel" "bestDown") ∈ lw_all := lw_g (lw_at lw_m8 94 rfl) rfl
theorem q1906 : (Jvm.Cond.lays "SecretsWorthModel" "SecretsWorthModel" "hullUp" "J") ∈ lw_all := lw_g (lw_at lw_m8 95 rfl) rfl
theorem q1907 : (Jvm.Cond.soleField "SecretsWorthModel" "hullUp") ∈ lw_all := lw_g (lw_at lw_m8 96 rfl) rfl
theorem q1908 : (Jvm.Cond.lays "SecretsWorthModel" "SecretsWorthModel" "hullDown" "J") ∈ lw_all := lw_g (lw_at lw_m8 97 rfl) rfl
theorem q1909 : (Jvm.Cond.soleField "SecretsWorthModel" "hullDown") ∈ lw_all := lw_g (lw_at lw_m8 98 rfl) rfl
theorem q1910 : (Jvm.Cond.lays "SecretsWorthModel" "SecretsWorthModel" "at" "I") ∈ lw_all := lw_g (lw_at lw_m8 99 rfl) rfl
theorem q1911 : (Jvm.Cond.soleField "SecretsWorthModel" "at") ∈ lw_all := lw_g (lw_at lw_m8 100 rfl) rfl
theorem q1912 : (Jvm.Cond.lays "SecretsWorthModel" "SecretsWorthModel" "ended" "I") ∈ lw_all := lw_g (lw_at lw_m8 101 rfl) rfl
theorem q1913 : (Jvm.Cond.soleField "SecretsWorthModel" "ended") ∈ lw_all := lw_g (lw_at lw_m8 102 rfl) rfl
theorem q1914 : (Jvm.Cond.lays "SecretsWorthModel" "SecretsWorthModel" "tokenAt" "I") ∈ lw_all := lw_g (lw_at lw_m8 103 rfl) rfl
theorem q1915 : (Jvm.Cond.soleField "SecretsWorthModel" "tokenAt") ∈ lw_all := lw_g (lw_at lw_m8 104 rfl) rfl
theorem q1916 : (Jvm.Cond.lays "SecretsWorthModel" "SecretsWorthModel" "token" "I") ∈ lw_all := lw_g (lw_at lw_m8 105 rfl) rfl
theorem q1917 : (Jvm.Cond.soleField "SecretsWorthModel" "token") ∈ lw_all := lw_g (lw_at lw_m8 106 rfl) rfl
theorem q1918 : (Jvm.Cond.lays "SecretsWorthModel" "SecretsWorthModel" "number" "I") ∈ lw_all := lw_g (lw_at lw_m8 107 rfl) rfl
theorem q1919 : (Jvm.Cond.soleField "SecretsWorthModel" "number") ∈ lw_all := lw_g (lw_at lw_m8 108 rfl) rfl
theorem q1920 : (Jvm.Cond.lays "SecretsWorthModel" "SecretsWorthModel" "wrong" "I") ∈ lw_all := lw_g (lw_at lw_m8 109 rfl) rfl
theorem q1921 : (Jvm.Cond.soleField "SecretsWorthModel" "wrong") ∈ lw_all := lw_g (lw_at lw_m8 110 rfl) rfl
theorem q1922 : (Jvm.Cond.lays "SecretsWorthModel" "SecretsWorthModel" "wordFrom" "I") ∈ lw_all := lw_g (lw_at lw_m8 111 rfl) rfl
theorem q1923 : (Jvm.Cond.soleField "SecretsWorthModel" "wordFrom") ∈ lw_all := lw_g (lw_at lw_m8 112 rfl) rfl
theorem q1924 : (Jvm.Cond.lays "SecretsWorthModel" "SecretsWorthModel" "wordTo" "I") ∈ lw_all := lw_g (lw_at lw_m8 113 rfl) rfl
theorem q1925 : (Jvm.Cond.soleField "SecretsWorthModel" "wordTo") ∈ lw_all := lw_g (lw_at lw_m8 114 rfl) rfl
theorem q1926 : (Jvm.Cond.lays "SecretsWorthModel" "SecretsWorthModel" "toldAnew" "Z") ∈ lw_all := lw_g (lw_at lw_m8 115 rfl) rfl
theorem q1927 : (Jvm.Cond.soleField "SecretsWorthModel" "toldAnew") ∈ lw_all := lw_g (lw_at lw_m8 116 rfl) rfl
theorem q1928 : (Jvm.Cond.superclass "SecretsWorthModel" "java/lang/Object") ∈ lw_all := lw_g (lw_at lw_m8 117 rfl) rfl
theorem q1929 : (Jvm.Cond.arrayClass Jvm.ClassFile.FieldType.boolean) ∈ lw_all := lw_g (lw_at lw_m8 118 rfl) rfl
theorem q1930 : (Jvm.Cond.methodLink "SecretsWorthLaw" (17 : Nat) ({ cls := "SecretsWorthModel", name := "states", desc := "(I)I" } : Jvm.MethodName)) ∈ lw_all := lw_g (lw_at lw_m8 119 rfl) rfl
theorem q1931 : (Jvm.Cond.instanceMethod ({ cls := "SecretsWorthModel", name := "states", desc := "(I)I" } : Jvm.MethodName)) ∈ lw_all := lw_g (lw_at lw_m8 120 rfl) rfl
theorem q1932 : (Jvm.Cond.selects "SecretsWorthModel" ({ cls := "SecretsWorthModel", name := "states", desc := "(I)I" } : Jvm.MethodName) ({ cls := "SecretsWorthModel", name := "states", desc := "(I)I" } : Jvm.MethodName)) ∈ lw_all := lw_g (lw_at lw_m8 121 rfl) rfl
theorem q1933 : (Jvm.Cond.code ({ cls := "SecretsWorthModel", name := "states", desc := "(I)I" } : Jvm.MethodName) prog_11_method_23_code (3 : Nat) (Option.some Jvm.ClassFile.FieldType.int)) ∈ lw_all := lw_g (lw_at lw_m8 122 rfl) rfl
theorem q1934 : (Jvm.Cond.constantLong "SecretsWorthModel" (134 : Nat) (2 : Int64)) ∈ lw_all := lw_g (lw_at lw_m8 123 rfl) rfl
theorem q1935 : (Jvm.Cond.constantLong "SecretsWorthModel" (136 : Nat) (3 : Int64)) ∈ lw_all := lw_g (lw_at lw_m8 124 rfl) rfl
theorem q1936 : (Jvm.Cond.methodLink "SecretsWorthModel" (138 : Nat) ({ cls := "SecretsWorthModel", name := "isIn", desc := "(JJJ)Z" } : Jvm.MethodName)) ∈ lw_all := lw_g (lw_at lw_m8 125 rfl) rfl
theorem q1937 : (Jvm.Cond.static ({ cls := "SecretsWorthModel", name := "isIn", desc := "(JJJ)Z" } : Jvm.MethodName)) ∈ lw_all := lw_g (lw_at lw_m8 126 rfl) rfl
theorem q1938 : (Jvm.Cond.code ({ cls := "SecretsWorthModel", name := "isIn", desc := "(JJJ)Z" } : Jvm.MethodName) prog_11_method_2_code (6 : Nat) (Option.some Jvm.ClassFile.FieldType.boolean)) ∈ lw_all := lw_g (lw_at lw_m8 127 rfl) rfl
theorem q1939 : (Jvm.Cond.methodLink "SecretsWorthModel" (142 : Nat) ({ cls := "SecretsWorthModel", name := "finds", desc := "(I)I" } : Jvm.MethodName)) ∈ lw_all := lw_g (lw_at lw_m8 128 rfl) rfl
theorem q1940 : (Jvm.Cond.privateMethod ({ cls := "SecretsWorthModel", name := "finds", desc := "(I)I" } : Jvm.MethodName)) ∈ lw_tbl := lw_at lw_m8 129 rfl
theorem q1941 : (Jvm.Cond.instanceMethod ({ cls := "SecretsWorthModel", name := "finds", desc := "(I)I" } : Jvm.MethodName)) ∈ lw_all := lw_g (lw_at lw_m8 130 rfl) rfl
theorem q1942 : (Jvm.Cond.code ({ cls := "SecretsWorthModel", name := "finds", desc := "(I)I" } : Jvm.MethodName) prog_11_method_3_code (2 : Nat) (Option.some Jvm.ClassFile.FieldType.int)) ∈ lw_all := lw_g (lw_at lw_m8 131 rfl) rfl
theorem q1943 : (Jvm.Cond.constant "SecretsWorthModel" (87 : Nat) (-1000000000 : Int32)) ∈ lw_all := lw_g (lw_at lw_m8 132 rfl) rfl
theorem q1944 : (Jvm.Cond.methodLink "SecretsWorthModel" (146 : Nat) ({ cls := "SecretsWorthModel", name := "anew", desc := "()V" } : Jvm.MethodName)) ∈ lw_all := lw_g (lw_at lw_m8 133 rfl) rfl
theorem q1945 : (Jvm.Cond.privateMethod ({ cls := "SecretsWorthModel", name := "anew", desc := "()V" } : Jvm.MethodName)) ∈ lw_tbl := lw_at lw_m8 134 rfl
theorem q1946 : (Jvm.Cond.instanceMethod ({ cls := "SecretsWorthModel", name := "anew", desc := "()V" } : Jvm.MethodName)) ∈ lw_all := lw_g (lw_at lw_m8 135 rfl) rfl
theorem q1947 : (Jvm.Cond.code ({ cls := "SecretsWorthModel", name := "anew", desc := "()V" } : Jvm.MethodName) prog_11_method_22_code (1 : Nat) (Option.none : Option Jvm.ClassFile.FieldType)) ∈ lw_all := lw_g (lw_at lw_m8 136 rfl) rfl
theorem q1948 : (Jvm.Cond.methodLink "SecretsWorthLaw" (21 : Nat) ({ cls := "SecretsWorthModel", name := "parts", desc := "(I)I" } : Jvm.MethodName)) ∈ lw_all := lw_g (lw_at lw_m8 137 rfl) rfl
theorem q1949 : (Jvm.Cond.instanceMethod ({ cls := "SecretsWorthModel", name := "parts", desc := "(I)I" } : Jvm.MethodName)) ∈ lw_all := lw_g (lw_at lw_m8 138 rfl) rfl
theorem q1950 : (Jvm.Cond.selects "SecretsWorthModel" ({ cls := "SecretsWorthModel", name := "parts", desc := "(I)I" } : Jvm.MethodName) ({ cls := "SecretsWorthModel", name := "parts", desc := "(I)I" } : Jvm.MethodName)) ∈ lw_all := lw_g (lw_at lw_m8 139 rfl) rfl
theorem q1951 : (Jvm.Cond.code ({ cls := "SecretsWorthModel", name := "parts", desc := "(I)I" } : Jvm.MethodName) prog_11_method_24_code (3 : Nat) (Option.some Jvm.ClassFile.FieldType.int)) ∈ lw_all := lw_g (lw_at lw_m8 140 rfl) rfl
theorem q1952 : (Jvm.Cond.constantLong "SecretsWorthModel" (149 : Nat) (4 : Int64)) ∈ lw_all := lw_g (lw_at lw_m8 141 rfl) rfl
theorem q1953 : (Jvm.Cond.methodLink "SecretsWorthLaw" (26 : Nat) ({ cls := "SecretsWorthModel", name := "size", desc := "(II)I" } : Jvm.MethodName)) ∈ lw_all := lw_g (lw_at lw_m8 142 rfl) rfl
theorem q1954 : (Jvm.Cond.instanceMethod ({ cls := "SecretsWorthModel", name := "size", desc := "(II)I" } : Jvm.MethodName)) ∈ lw_all := lw_g (lw_at lw_m8 143 rfl) rfl
theorem q1955 : (Jvm.Cond.selects "SecretsWorthModel" ({ cls := "SecretsWorthModel", name := "size", desc := "(II)I" } : Jvm.MethodName) ({ cls := "SecretsWorthModel", name := "size", desc := "(II)I" } : Jvm.MethodName)) ∈ lw_all := lw_g (lw_at lw_m8 144 rfl) rfl
theorem q1956 : (Jvm.Cond.code ({ cls := "SecretsWorthModel", name := "size", desc := "(II)I" } : Jvm.MethodName) prog_11_method_25_code (4 : Nat) (Option.some Jvm.ClassFile.FieldType.int)) ∈ lw_all := lw_g (lw_at lw_m8 145 rfl) rfl
theorem q1957 : (Jvm.Cond.methodLink "SecretsWorthLaw" (31 : Nat) ({ cls := "SecretsWorthModel", name := "cell", desc := "(IIII)I" } : Jvm.MethodName)) ∈ lw_all := lw_g (lw_at lw_m8 146 rfl) rfl
theorem q1958 : (Jvm.Cond.instanceMethod ({ cls := "SecretsWorthModel", name := "cell", desc := "(IIII)I" } : Jvm.MethodName)) ∈ lw_all := lw_g (lw_at lw_m8 147 rfl) rfl
theorem q1959 : (Jvm.Cond.selects "SecretsWorthModel" ({ cls := "SecretsWorthModel", name := "cell", desc := "(IIII)I" } : Jvm.MethodName) ({ cls := "SecretsWorthModel", name := "cell", desc := "(IIII)I" } : Jvm.MethodName)) ∈ lw_all := lw_g (lw_at lw_m8 148 rfl) rfl
theorem q1960 : (Jvm.Cond.code ({ cls := "SecretsWorthModel", name := "cell", desc := "(IIII)I" } : Jvm.MethodName) prog_11_method_28_code (6 : Nat) (Option.some Jvm.ClassFile.FieldType.int)) ∈ lw_all := lw_g (lw_at lw_m8 149 rfl) rfl
theorem q1961 : (Jvm.Cond.methodLink "SecretsWorthModel" (151 : Nat) ({ cls := "SecretsWorthModel", name := "isCell", desc := "(III)Z" } : Jvm.MethodName)) ∈ lw_all := lw_g (lw_at lw_m8 150 rfl) rfl
theorem q1962 : (Jvm.Cond.static ({ cls := "SecretsWorthModel", name := "isCell", desc := "(III)Z" } : Jvm.MethodName)) ∈ lw_all := lw_g (lw_at lw_m8 151 rfl) rfl
theorem q1963 : (Jvm.Cond.code ({ cls := "SecretsWorthModel", name := "isCell", desc := "(III)Z" } : Jvm.MethodName) prog_11_method_27_code (3 : Nat) (Option.some Jvm.ClassFile.FieldType.boolean)) ∈ lw_all := lw_g (lw_at lw_m8 152 rfl) rfl
theorem q1964 : (Jvm.Cond.constantLong "SecretsWorthModel" (155 : Nat) (-20 : Int64)) ∈ lw_all := lw_g (lw_at lw_m8 153 rfl) rfl
theorem q1965 : (Jvm.Cond.constantLong "SecretsWorthModel" (157 : Nat) (20 : Int64)) ∈ lw_all := lw_g (lw_at lw_m8 154 rfl) rfl
theorem q1966 : (Jvm.Cond.methodLink "SecretsWorthModel" (159 : Nat) ({ cls := "SecretsWorthModel", name := "place", desc := "(III)I" } : Jvm.MethodName)) ∈ lw_all := lw_g (lw_at lw_m8 155 rfl) rfl
theorem q1967 : (Jvm.Cond.static ({ cls := "SecretsWorthModel", name := "place", desc := "(III)I" } : Jvm.MethodName)) ∈ lw_all := lw_g (lw_at lw_m8 156 rfl) rfl
theorem q1968 : (Jvm.Cond.code ({ cls := "SecretsWorthModel", name := "place", desc := "(III)I" } : Jvm.MethodName) prog_11_method_26_code (3 : Nat) (Option.some Jvm.ClassFile.FieldType.int)) ∈ lw_all := lw_g (lw_at lw_m8 157 rfl) rfl
theorem q1969 : (Jvm.Cond.methodLink "SecretsWorthLaw" (35 : Nat) ({ cls := "SecretsWorthModel", name := "lays", desc := "(II)I" } : Jvm.MethodName)) ∈ lw_all := lw_g (lw_at lw_m8 158 rfl) rfl
theorem q1970 : (Jvm.Cond.instanceMethod ({ cls := "SecretsWorthModel", name := "lays", desc := "(II)I" } : Jvm.MethodName)) ∈ lw_all := lw_g (lw_at lw_m8 159 rfl) rfl
theorem q1971 : (Jvm.Cond.selects "SecretsWorthModel" ({ cls := "SecretsWorthModel", name := "lays", desc := "(II)I" } : Jvm.MethodName) ({ cls := "SecretsWorthModel", name := "lays", desc := "(II)I" } : Jvm.MethodName)) ∈ lw_all := lw_g (lw_at lw_m8 160 rfl) rfl
theorem q1972 : (Jvm.Cond.code ({ cls := "SecretsWorthModel", name := "lays", desc := "(II)I" } : Jvm.MethodName) prog_11_method_31_code (7 : Nat) (Option.some Jvm.ClassFile.FieldType.int)) ∈ lw_all := lw_g (lw_at lw_m8 161 rfl) rfl
theorem q1973 : (Jvm.Cond.methodLink "SecretsWorthModel" (163 : Nat) ({ cls := "SecretsWorthModel", name := "isSheet", desc := "(I)Z" } : Jvm.MethodName)) ∈ lw_all := lw_g (lw_at lw_m8 162 rfl) rfl
theorem q1974 : (Jvm.Cond.static ({ cls := "SecretsWorthModel", name := "isSheet", desc := "(I)Z" } : Jvm.MethodName)) ∈ lw_all := lw_g (lw_at lw_m8 163 rfl) rfl
theorem q1975 : (Jvm.Cond.code ({ cls := "SecretsWorthModel", name := "isSheet", desc := "(I)Z" } : Jvm.MethodName) prog_11_method_6_code (1 : Nat) (Option.some Jvm.ClassFile.FieldType.boolean)) ∈ lw_all := lw_g (lw_at lw_m8 164 rfl) rfl
theorem q1976 : (Jvm.Cond.methodLink "SecretsWorthModel" (167 : Nat) ({ cls := "SecretsWorthModel", name := "hasFew", desc := "(II)Z" } : Jvm.MethodName)) ∈ lw_all := lw_g (lw_at lw_m8 165 rfl) rfl
theorem q1977 : (Jvm.Cond.privateMethod ({ cls := "SecretsWorthModel", name := "hasFew", desc := "(II)Z" } : Jvm.MethodName)) ∈ lw_tbl := lw_at lw_m8 166 rfl
theorem q1978 : (Jvm.Cond.instanceMethod ({ cls := "SecretsWorthModel", name := "hasFew", desc := "(II)Z" } : Jvm.MethodName)) ∈ lw_all := lw_g (lw_at lw_m8 167 rfl) rfl
theorem q1979 : (Jvm.Cond.code ({ cls := "SecretsWorthModel", name := "hasFew", desc := "(II)Z" } : Jvm.MethodName) prog_11_method_29_code (3 : Nat) (Option.some Jvm.ClassFile.FieldType.boolean)) ∈ lw_all := lw_g (lw_at lw_m8 168 rfl) rfl
theorem q1980 : (Jvm.Cond.methodLink "SecretsWorthModel" (171 : Nat) ({ cls := "SecretsWorthModel", name := "numberAt", desc := "(II)J" } : Jvm.MethodName)) ∈ lw_all := lw_g (lw_at lw_m8 169 rfl) rfl
theorem q1981 : (Jvm.Cond.privateMethod ({ cls := "SecretsWorthModel", name := "numberAt", desc := "(II)J" } : Jvm.MethodName)) ∈ lw_tbl := lw_at lw_m8 170 rfl
theorem q1982 : (Jvm.Cond.instanceMethod ({ cls := "SecretsWorthModel", name := "numberAt", desc := "(II)J" } : Jvm.MethodName)) ∈ lw_all := lw_g (lw_at lw_m8 171 rfl) rfl
theorem q1983 : (Jvm.Cond.code ({ cls := "SecretsWorthModel", name := "numberAt", desc := "(II)J" } : Jvm.MethodName) prog_11_method_30_code (3 : Nat) (Option.some Jvm.ClassFile.FieldType.long)) ∈ lw_all := lw_g (lw_at lw_m8 172 rfl) rfl
theorem q1984 : (Jvm.Cond.methodLink "SecretsWorthLaw" (40 : Nat) ({ cls := "SecretsWorthModel", name := "look", desc := "(III)I" } : Jvm.MethodName)) ∈ lw_all := lw_g (lw_at lw_m8 173 rfl) rfl
theorem q1985 : (Jvm.Cond.instanceMethod ({ cls := "SecretsWorthModel", name := "look", desc := "(III)I" } : Jvm.MethodName)) ∈ lw_all := lw_g (lw_at lw_m8 174 rfl) rfl
theorem q1986 : (Jvm.Cond.selects "SecretsWorthModel" ({ cls := "SecretsWorthModel", name := "look", desc := "(III)I" } : Jvm.MethodName) ({ cls := "SecretsWorthModel", name := "look", desc := "(III)I" } : Jvm.MethodName)) ∈ lw_all := lw_g (lw_at lw_m8 175 rfl) rfl
theorem q1987 : (Jvm.Cond.code ({ cls := "SecretsWorthModel", name := "look", desc := "(III)I" } : Jvm.MethodName) prog_11_method_32_code (4 : Nat) (Option.some Jvm.ClassFile.FieldType.int)) ∈ lw_all := lw_g (lw_at lw_m8 176 rfl) rfl
theorem q1988 : (Jvm.Cond.methodLink "SecretsWorthLaw" (44 : Nat) ({ cls := "SecretsWorthModel", name := "prior", desc := "(I)I" } : Jvm.MethodName)) ∈ lw_all := lw_g (lw_at lw_m8 177 rfl) rfl
theorem q1989 : (Jvm.Cond.instanceMethod ({ cls := "SecretsWorthModel", name := "prior", desc := "(I)I" } : Jvm.MethodName)) ∈ lw_all := lw_g (lw_at lw_m8 178 rfl) rfl
theorem q1990 : (Jvm.Cond.selects "SecretsWorthModel" ({ cls := "SecretsWorthModel", name := "prior", desc := "(I)I" } : Jvm.MethodName) ({ cls := "SecretsWorthModel", name := "prior", desc := "(I)I" } : Jvm.MethodName)) ∈ lw_all := lw_g (lw_at lw_m8 179 rfl) rfl
theorem q1991 : (Jvm.Cond.code ({ cls := "SecretsWorthModel", name := "prior", desc := "(I)I" } : Jvm.MethodName) prog_11_method_33_code (3 : Nat) (Option.some Jvm.ClassFile.FieldType.int)) ∈ lw_all := lw_g (lw_at lw_m8 180 rfl) rfl
theorem q1992 : (Jvm.Cond.methodLink "SecretsWorthModel" (175 : Nat) ({ cls := "SecretsWorthModel", name := "isPoint", desc := "(I)Z" } : Jvm.MethodName)) ∈ lw_all := lw_g (lw_at lw_m8 181 rfl) rfl
theorem q1993 : (Jvm.Cond.privateMethod ({ cls := "SecretsWorthModel", name := "isPoint", desc := "(I)Z" } : Jvm.MethodName)) ∈ lw_tbl := lw_at lw_m8 182 rfl
theorem q1994 : (Jvm.Cond.instanceMethod ({ cls := "SecretsWorthModel", name := "isPoint", desc := "(I)Z" } : Jvm.MethodName)) ∈ lw_all := lw_g (lw_at lw_m8 183 rfl) rfl
theorem q1995 : (Jvm.Cond.code ({ cls := "SecretsWorthModel", name := "isPoint", desc := "(I)Z" } : Jvm.MethodName) prog_11_method_18_code (2 : Nat) (Option.some Jvm.ClassFile.FieldType.boolean)) ∈ lw_all := lw_g (lw_at lw_m8 184 rfl) rfl
theorem q1996 : (Jvm.Cond.methodLink "SecretsWorthModel" (123 : Nat) ({ cls := "SecretsWorthModel", name := "points", desc := "()I" } : Jvm.MethodName)) ∈ lw_all := lw_g (lw_at lw_m8 185 rfl) rfl
theorem q1997 : (Jvm.Cond.privateMethod ({ cls := "SecretsWorthModel", name := "points", desc := "()I" } : Jvm.MethodName)) ∈ lw_tbl := lw_at lw_m8 186 rfl
theorem q1998 : (Jvm.Cond.instanceMethod ({ cls := "SecretsWorthModel", name := "points", desc := "()I" } : Jvm.MethodName)) ∈ lw_all := lw_g (lw_at lw_m8 187 rfl) rfl
theorem q1999 : (Jvm.Cond.code ({ cls := "SecretsWorthModel", name := "points", desc := "()I" } : Jvm.MethodName) prog_11_method_17_code (1 : Nat) (Option.some Jvm.ClassFile.FieldType.int)) ∈ lw_all := lw_g (lw_at lw_m8 188 rfl) rfl
theorem q2000 : (Jvm.Cond.methodLink "SecretsWorthLaw" (48 : Nat) ({ cls := "SecretsWorthModel", name := "target", desc := "(II)I" } : Jvm.MethodName)) ∈ lw_all := lw_g (lw_at lw_m8 189 rfl) rfl
theorem q2001 : (Jvm.Cond.instanceMethod ({ cls := "SecretsWorthModel", name := "target", desc := "(II)I" } : Jvm.MethodName)) ∈ lw_all := lw_g (lw_at lw_m8 190 rfl) rfl
theorem q2002 : (Jvm.Cond.selects "SecretsWorthModel" ({ cls := "SecretsWorthModel", name := "target", desc := "(II)I" } : Jvm.MethodName) ({ cls := "SecretsWorthModel", name := "target", desc := "(II)I" } : Jvm.MethodName)) ∈ lw_all := lw_g (lw_at lw_m8 191 rfl) rfl
theorem q2003 : (Jvm.Cond.code ({ cls := "SecretsWorthModel", name := "target", desc := "(II)I" } : Jvm.MethodName) prog_11_method_34_code (4 : Nat) (Option.some Jvm.ClassFile.FieldType.int)) ∈ lw_all := lw_g (lw_at lw_m8 192 rfl) rfl
theorem q2004 : (Jvm.Cond.methodLink "SecretsWorthModel" (178 : Nat) ({ cls := "SecretsWorthModel", name := "isState", desc := "(I)Z" } : Jvm.MethodName)) ∈ lw_all := lw_g (lw_at lw_m8 193 rfl) rfl
theorem q2005 : (Jvm.Cond.privateMethod ({ cls := "SecretsWorthModel", name := "isState", desc := "(I)Z" } : Jvm.MethodName)) ∈ lw_tbl := lw_at lw_m8 194 rfl
theorem q2006 : (Jvm.Cond.instanceMethod ({ cls := "SecretsWorthModel", name := "isState", desc := "(I)Z" } : Jvm.MethodName)) ∈ lw_all := lw_g (lw_at lw_m8 195 rfl) rfl
theorem q2007 : (Jvm.Cond.code ({ cls := "SecretsWorthModel", name := "isState", desc := "(I)Z" } : Jvm.MethodName) prog_11_method_21_code (2 : Nat) (Option.some Jvm.ClassFile.FieldType.boolean)) ∈ lw_all := lw_g (lw_at lw_m8 196 rfl) rfl
theorem q2008 : (Jvm.Cond.constantLong "SecretsWorthModel" (181 : Nat) (-99 : Int64)) ∈ lw_all := lw_g (lw_at lw_m8 197 rfl) rfl
theorem q2009 : (Jvm.Cond.constantLong "SecretsWorthModel" (183 : Nat) (99 : Int64)) ∈ lw_all := lw_g (lw_at lw_m8 198 rfl) rfl
theorem q2010 : (Jvm.Cond.methodLink "SecretsWorthLaw" (52 : Nat) ({ cls := "SecretsWorthModel", name := "give", desc := "(II)I" } : Jvm.MethodName)) ∈ lw_all := lw_g (lw_at lw_m8 199 rfl) rfl
theorem q2011 : (Jvm.Cond.instanceMethod ({ cls := "SecretsWorthModel", name := "give", desc := "(II)I" } : Jvm.MethodName)) ∈ lw_all := lw_g (lw_at lw_m8 200 rfl) rfl
theorem q2012 : (Jvm.Cond.selects "SecretsWorthModel" ({ cls := "SecretsWorthModel", name := "give", desc := "(II)I" } : Jvm.MethodName) ({ cls := "SecretsWorthModel", name := "give", desc := "(II)I" } : Jvm.MethodName)) ∈ lw_all := lw_g (lw_at lw_m8 201 rfl) rfl
theorem q2013 : (Jvm.Cond.code ({ cls := "SecretsWorthModel", name := "give", desc := "(II)I" } : Jvm.MethodName) prog_11_method_35_code (3 : Nat) (Option.some Jvm.ClassFile.FieldType.int)) ∈ lw_all := lw_g (lw_at lw_m8 202 rfl) rfl
theorem q2014 : (Jvm.Cond.methodLink "SecretsWorthModel" (127 : Nat) ({ cls := "SecretsWorthModel", name := "gives", desc := "(II)I" } : Jvm.MethodName)) ∈ lw_all := lw_g (lw_at lw_m8 203 rfl) rfl
theorem q2015 : (Jvm.Cond.privateMethod ({ cls := "SecretsWorthModel", name := "gives", desc := "(II)I" } : Jvm.MethodName)) ∈ lw_tbl := lw_at lw_m8 204 rfl
theorem q2016 : (Jvm.Cond.instanceMethod ({ cls := "SecretsWorthModel", name := "gives", desc := "(II)I" } : Jvm.MethodName)) ∈ lw_all := lw_g (lw_at lw_m8 205 rfl) rfl
theorem q2017 : (Jvm.Cond.code ({ cls := "SecretsWorthModel", name := "gives", desc := "(II)I" } : Jvm.MethodName) prog_11_method_19_code (5 : Nat) (Option.some Jvm.ClassFile.FieldType.int)) ∈ lw_all := lw_g (lw_at lw_m8 206 rfl) rfl
theorem q2018 : (Jvm.Cond.methodLink "SecretsWorthLaw" (56 : Nat) ({ cls := "SecretsWorthModel", name := "average", desc := "(III)I" } : Jvm.MethodName)) ∈ lw_all := lw_g (lw_at lw_m8 207 rfl) rfl
theorem q2019 : (Jvm.Cond.instanceMethod ({ cls := "SecretsWorthModel", name := "average", desc := "(III)I" } : Jvm.MethodName)) ∈ lw_all := lw_g (lw_at lw_m8 208 rfl) rfl
theorem q2020 : (Jvm.Cond.selects "SecretsWorthModel" ({ cls := "SecretsWorthModel", name := "average", desc := "(III)I" } : Jvm.MethodName) ({ cls := "SecretsWorthModel", name := "average", desc := "(III)I" } : Jvm.MethodName)) ∈ lw_all := lw_g (lw_at lw_m8 209 rfl) rfl
theorem q2021 : (Jvm.Cond.code ({ cls := "SecretsWorthModel", name := "average", desc := "(III)I" } : Jvm.MethodName) prog_11_method_54_code (4 : Nat) (Option.some Jvm.ClassFile.FieldType.int)) ∈ lw_all := lw_g (lw_at lw_m8 210 rfl) rfl
theorem q2022 : (Jvm.Cond.methodLink "SecretsWorthModel" (225 : Nat) ({ cls := "SecretsWorthModel", name := "averageAt", desc := "(III)I" } : Jvm.MethodName)) ∈ lw_all := lw_g (lw_at lw_m8 211 rfl) rfl
theorem q2023 : (Jvm.Cond.privateMethod ({ cls := "SecretsWorthModel", name := "averageAt", desc := "(III)I" } : Jvm.MethodName)) ∈ lw_tbl := lw_at lw_m8 212 rfl
theorem q2024 : (Jvm.Cond.instanceMethod ({ cls := "SecretsWorthModel", name := "averageAt", desc := "(III)I" } : Jvm.MethodName)) ∈ lw_all := lw_g (lw_at lw_m8 213 rfl) rfl
theorem q2025 : (Jvm.Cond.code ({ cls := "SecretsWorthModel", name := "averageAt", desc := "(III)I" } : Jvm.MethodName) prog_11_method_44_code (6 : Nat) (Option.some Jvm.ClassFile.FieldType.int)) ∈ lw_all := lw_g (lw_at lw_m8 214 rfl) rfl
theorem q2026 : (Jvm.Cond.methodLink "SecretsWorthLaw" (61 : Nat) ({ cls := "SecretsWorthModel", name := "value", desc := "(II)J" } : Jvm.MethodName)) ∈ lw_all := lw_g (lw_at lw_m8 215 rfl) rfl
theorem q2027 : (Jvm.Cond.instanceMethod ({ cls := "SecretsWorthModel", name := "value", desc := "(II)J" } : Jvm.MethodName)) ∈ lw_all := lw_g (lw_at lw_m8 216 rfl) rfl
theorem q2028 : (Jvm.Cond.selects "SecretsWorthModel" ({ cls := "SecretsWorthModel", name := "value", desc := "(II)J" } : Jvm.MethodName) ({ cls := "SecretsWorthModel", name := "value", desc := "(II)J" } : Jvm.MethodName)) ∈ lw_all := lw_g (lw_at lw_m8 217 rfl) rfl
theorem q2029 : (Jvm.Cond.code ({ cls := "SecretsWorthModel", name := "value", desc := "(II)J" } : Jvm.MethodName) prog_11_method_55_code (3 : Nat) (Option.some Jvm.ClassFile.FieldType.long)) ∈ lw_all := lw_g (lw_at lw_m8 218 rfl) rfl
theorem q2030 : (Jvm.Cond.methodLink "SecretsWorthModel" (269 : Nat) ({ cls := "SecretsWorthModel", name := "isPart", desc := "(I)Z" } : Jvm.MethodName)) ∈ lw_all := lw_g (lw_at lw_m8 219 rfl) rfl
theorem q2031 : (Jvm.Cond.static ({ cls := "SecretsWorthModel", name := "isPart", desc := "(I)Z" } : Jvm.MethodName)) ∈ lw_all := lw_g (lw_at lw_m8 220 rfl) rfl
theorem q2032 : (Jvm.Cond.code ({ cls := "SecretsWorthModel", name := "isPart", desc := "(I)Z" } : Jvm.MethodName) prog_11_method_5_code (1 : Nat) (Option.some Jvm.ClassFile.FieldType.boolean)) ∈ lw_all := lw_g (lw_at lw_m8 221 rfl) rfl
theorem q2033 : (Jvm.Cond.methodLink "SecretsWorthModel" (272 : Nat) ({ cls := "SecretsWorthModel", name := "findsFar", desc := "(I)J" } : Jvm.MethodName)) ∈ lw_all := lw_g (lw_at lw_m8 222 rfl) rfl
theorem q2034 : (Jvm.Cond.privateMethod ({ cls := "SecretsWorthModel", name := "findsFar", desc := "(I)J" } : Jvm.MethodName)) ∈ lw_tbl := lw_at lw_m8 223 rfl
theorem q2035 : (Jvm.Cond.instanceMethod ({ cls := "SecretsWorthModel", name := "findsFar", desc := "(I)J" } : Jvm.MethodName)) ∈ lw_all := lw_g (lw_at lw_m8 224 rfl) rfl
theorem q2036 : (Jvm.Cond.code ({ cls := "SecretsWorthModel", name := "findsFar", desc := "(I)J" } : Jvm.MethodName) prog_11_method_4_code (2 : Nat) (Option.some Jvm.ClassFile.FieldType.long)) ∈ lw_all := lw_g (lw_at lw_m8 225 rfl) rfl
theorem q2037 : (Jvm.Cond.constantLong "SecretsWorthModel" (88 : Nat) (-9000000000000000000 : Int64)) ∈ lw_all := lw_g (lw_at lw_m8 226 rfl) rfl
theorem q2038 : (Jvm.Cond.methodLink "SecretsWorthModel" (276 : Nat) ({ cls := "SecretsWorthModel", name := "begins", desc := "()V" } : Jvm.MethodName)) ∈ lw_all := lw_g (lw_at lw_m8 227 rfl) rfl
theorem q2039 : (Jvm.Cond.privateMethod ({ cls := "SecretsWorthModel", name := "begins", desc := "()V" } : Jvm.MethodName)) ∈ lw_tbl := lw_at lw_m8 228 rfl
theorem q2040 : (Jvm.Cond.instanceMethod ({ cls := "SecretsWorthModel", name := "begins", desc := "()V" } : Jvm.MethodName)) ∈ lw_all := lw_g (lw_at lw_m8 229 rfl) rfl
theorem q2041 : (Jvm.Cond.code ({ cls := "SecretsWorthModel", name := "begins", desc := "()V" } : Jvm.MethodName) prog_11_method_43_code (2 : Nat) (Option.none : Option Jvm.ClassFile.FieldType)) ∈ lw_all := lw_g (lw_at lw_m8 230 rfl) rfl
theorem q2042 : (Jvm.Cond.methodLink "SecretsWorthModel" (260 : Nat) ({ cls := "SecretsWorthModel", name := "u", desc := "(I)V" } : Jvm.MethodName)) ∈ lw_all := lw_g (lw_at lw_m8 231 rfl) rfl
theorem q2043 : (Jvm.Cond.privateMethod ({ cls := "SecretsWorthModel", name := "u", desc := "(I)V" } : Jvm.MethodName)) ∈ lw_tbl := lw_at lw_m8 232 rfl
theorem q2044 : (Jvm.Cond.instanceMethod ({ cls := "SecretsWorthModel", name := "u", desc := "(I)V" } : Jvm.MethodName)) ∈ lw_all := lw_g (lw_at lw_m8 233 rfl) rfl
theorem q2045 : (Jvm.Cond.code ({ cls := "SecretsWorthModel", name := "u", desc := "(I)V" } : Jvm.MethodName) prog_11_method_47_code (2 : Nat) (Option.none : Option Jvm.ClassFile.FieldType)) ∈ lw_all := lw_g (lw_at lw_m8 234 rfl) rfl
theorem q2046 : (Jvm.Cond.methodLink "SecretsWorthModel" (235 : Nat) ({ cls := "SecretsWorthModel", name := "averages", desc := "(I)V" } : Jvm.MethodName)) ∈ lw_all := lw_g (lw_at lw_m8 235 rfl) rfl
theorem q2047 : (Jvm.Cond.privateMethod ({ cls := "SecretsWorthModel", name := "averages", desc := "(I)V" } : Jvm.MethodName)) ∈ lw_tbl := lw_at lw_m8 236 rfl
theorem q2048 : (Jvm.Cond.instanceMethod ({ cls := "SecretsWorthModel", name := "averages", desc := "(I)V" } : Jvm.MethodName)) ∈ lw_all := lw_g (lw_at lw_m8 237 rfl) rfl
theorem q2049 : (Jvm.Cond.code ({ cls := "SecretsWorthModel", name := "averages", desc := "(I)V" } : Jvm.MethodName) prog_11_method_45_code (4 : Nat) (Option.none : Option Jvm.ClassFile.FieldType)) ∈ lw_all := lw_g (lw_at lw_m8 238 rfl) rfl
theorem q2050 : (Jvm.Cond.methodLink "SecretsWorthModel" (228 : Nat) ({ cls := "SecretsWorthModel", name := "kernel", desc := "()V" } : Jvm.MethodName)) ∈ lw_all := lw_g (lw_at lw_m8 239 rfl) rfl
theorem q2051 : (Jvm.Cond.privateMethod ({ cls := "SecretsWorthModel", name := "kernel", desc := "()V" } : Jvm.MethodName)) ∈ lw_tbl := lw_at lw_m9 0 rfl
theorem q2052 : (Jvm.Cond.instanceMethod ({ cls := "SecretsWorthModel", name := "kernel", desc := "()V" } : Jvm.MethodName)) ∈ lw_all := lw_g (lw_at lw_m9 1 rfl) rfl
theorem q2053 : (Jvm.Cond.code ({ cls := "SecretsWorthModel", name := "kernel", desc := "()V" } : Jvm.MethodName) prog_11_method_42_code (3 : Nat) (Option.none : Option Jvm.ClassFile.FieldType)) ∈ lw_all := lw_g (lw_at lw_m9 2 rfl) rfl
theorem q2054 : (Jvm.Cond.methodLink "SecretsWorthModel" (214 : Nat) ({ cls := "SecretsWorthModel", name := "nextSet", desc := "(II)I" } : Jvm.MethodName)) ∈ lw_all := lw_g (lw_at lw_m9 3 rfl) rfl
theorem q2055 : (Jvm.Cond.static ({ cls := "SecretsWorthModel", name := "nextSet", desc := "(II)I" } : Jvm.MethodName)) ∈ lw_all := lw_g (lw_at lw_m9 4 rfl) rfl
theorem q2056 : (Jvm.Cond.code ({ cls := "SecretsWorthModel", name := "nextSet", desc := "(II)I" } : Jvm.MethodName) prog_11_method_40_code (4 : Nat) (Option.some Jvm.ClassFile.FieldType.int)) ∈ lw_all := lw_g (lw_at lw_m9 5 rfl) rfl
theorem q2057 : (Jvm.Cond.methodLink "SecretsWorthModel" (217 : Nat) ({ cls := "SecretsWorthModel", name := "takes", desc := "(I[I)V" } : Jvm.MethodName)) ∈ lw_all := lw_g (lw_at lw_m9 6 rfl) rfl
theorem q2058 : (Jvm.Cond.static ({ cls := "SecretsWorthModel", name := "takes", desc := "(I[I)V" } : Jvm.MethodName)) ∈ lw_all := lw_g (lw_at lw_m9 7 rfl) rfl
theorem q2059 : (Jvm.Cond.code ({ cls := "SecretsWorthModel", name := "takes", desc := "(I[I)V" } : Jvm.MethodName) prog_11_method_41_code (4 : Nat) (Option.none : Option Jvm.ClassFile.FieldType)) ∈ lw_all := lw_g (lw_at lw_m9 8 rfl) rfl
theorem q2060 : (Jvm.Cond.methodLink "SecretsWorthModel" (221 : Nat) ({ cls := "SecretsWorthModel", name := "isKernel", desc := "()Z" } : Jvm.MethodName)) ∈ lw_all := lw_g (lw_at lw_m9 9 rfl) rfl
theorem q2061 : (Jvm.Cond.privateMethod ({ cls := "SecretsWorthModel", name := "isKernel", desc := "()Z" } : Jvm.MethodName)) ∈ lw_tbl := lw_at lw_m9 10 rfl
theorem q2062 : (Jvm.Cond.instanceMethod ({ cls := "SecretsWorthModel", name := "isKernel", desc := "()Z" } : Jvm.MethodName)) ∈ lw_all := lw_g (lw_at lw_m9 11 rfl) rfl
theorem q2063 : (Jvm.Cond.code ({ cls := "SecretsWorthModel", name := "isKernel", desc := "()Z" } : Jvm.MethodName) prog_11_method_39_code (7 : Nat) (Option.some Jvm.ClassFile.FieldType.boolean)) ∈ lw_all := lw_g (lw_at lw_m9 12 rfl) rfl
theorem q2064 : (Jvm.Cond.methodLink "SecretsWorthModel" (198 : Nat) ({ cls := "SecretsWorthModel", name := "determinant", desc := "(ZI)J" } : Jvm.MethodName)) ∈ lw_all := lw_g (lw_at lw_m9 13 rfl) rfl
theorem q2065 : (Jvm.Cond.privateMethod ({ cls := "SecretsWorthModel", name := "determinant", desc := "(ZI)J" } : Jvm.MethodName)) ∈ lw_tbl := lw_at lw_m9 14 rfl
theorem q2066 : (Jvm.Cond.instanceMethod ({ cls := "SecretsWorthModel", name := "determinant", desc := "(ZI)J" } : Jvm.MethodName)) ∈ lw_all := lw_g (lw_at lw_m9 15 rfl) rfl
theorem q2067 : (Jvm.Cond.code ({ cls := "SecretsWorthModel", name := "determinant", desc := "(ZI)J" } : Jvm.MethodName) prog_11_method_38_code (10 : Nat) (Option.some Jvm.ClassFile.FieldType.long)) ∈ lw_all := lw_g (lw_at lw_m9 16 rfl) rfl
theorem q2068 : (Jvm.Cond.methodLink "SecretsWorthModel" (194 : Nat) ({ cls := "SecretsWorthModel", name := "entry", desc := "(IIZI)J" } : Jvm.MethodName)) ∈ lw_all := lw_g (lw_at lw_m9 17 rfl) rfl
theorem q2069 : (Jvm.Cond.privateMethod ({ cls := "SecretsWorthModel", name := "entry", desc := "(IIZI)J" } : Jvm.MethodName)) ∈ lw_tbl := lw_at lw_m9 18 rfl
theorem q2070 : (Jvm.Cond.instanceMethod ({ cls := "SecretsWorthModel", name := "entry", desc := "(IIZI)J" } : Jvm.MethodName)) ∈ lw_all := lw_g (lw_at lw_m9 19 rfl) rfl
theorem q2071 : (Jvm.Cond.code ({ cls := "SecretsWorthModel", name := "entry", desc := "(IIZI)J" } : Jvm.MethodName) prog_11_method_37_code (5 : Nat) (Option.some Jvm.ClassFile.FieldType.long)) ∈ lw_all := lw_g (lw_at lw_m9 20 rfl) rfl
theorem q2072 : (Jvm.Cond.constantLong "SecretsWorthModel" (189 : Nat) (-1 : Int64)) ∈ lw_all := lw_g (lw_at lw_m9 21 rfl) rfl
theorem q2073 : (Jvm.Cond.methodLink "SecretsWorthModel" (191 : Nat) ({ cls := "SecretsWorthModel", name := "at", desc := "(II)J" } : Jvm.MethodName)) ∈ lw_all := lw_g (lw_at lw_m9 22 rfl) rfl
theorem q2074 : (Jvm.Cond.privateMethod ({ cls := "SecretsWorthModel", name := "at", desc := "(II)J" } : Jvm.MethodName)) ∈ lw_tbl := lw_at lw_m9 23 rfl
theorem q2075 : (Jvm.Cond.instanceMethod ({ cls := "SecretsWorthModel", name := "at", desc := "(II)J" } : Jvm.MethodName)) ∈ lw_all := lw_g (lw_at lw_m9 24 rfl) rfl
theorem q2076 : (Jvm.Cond.code ({ cls := "SecretsWorthModel", name := "at", desc := "(II)J" } : Jvm.MethodName) prog_11_method_36_code (3 : Nat) (Option.some Jvm.ClassFile.FieldType.long)) ∈ lw_all := lw_g (lw_at lw_m9 25 rfl) rfl
theorem q2077 : (Jvm.Cond.methodLink "SecretsWorthModel" (239 : Nat) ({ cls := "SecretsWorthModel", name := "byParts", desc := "()V" } : Jvm.MethodName)) ∈ lw_all := lw_g (lw_at lw_m9 26 rfl) rfl
theorem q2078 : (Jvm.Cond.privateMethod ({ cls := "SecretsWorthModel", name := "byParts", desc := "()V" } : Jvm.MethodName)) ∈ lw_tbl := lw_at lw_m9 27 rfl
theorem q2079 : (Jvm.Cond.instanceMethod ({ cls := "SecretsWorthModel", name := "byParts", desc := "()V" } : Jvm.MethodName)) ∈ lw_all := lw_g (lw_at lw_m9 28 rfl) rfl
theorem q2080 : (Jvm.Cond.code ({ cls := "SecretsWorthModel", name := "byParts", desc := "()V" } : Jvm.MethodName) prog_11_method_46_code (1 : Nat) (Option.none : Option Jvm.ClassFile.FieldType)) ∈ lw_all := lw_g (lw_at lw_m9 29 rfl) rfl
theorem q2081 : (Jvm.Cond.methodLink "SecretsWorthModel" (116 : Nat) ({ cls := "SecretsWorthModel", name := "lowest", desc := "(JJ)V" } : Jvm.MethodName)) ∈ lw_all := lw_g (lw_at lw_m9 30 rfl) rfl
theorem q2082 : (Jvm.Cond.privateMethod ({ cls := "SecretsWorthModel", name := "lowest", desc := "(JJ)V" } : Jvm.MethodName)) ∈ lw_tbl := lw_at lw_m9 31 rfl
theorem q2083 : (Jvm.Cond.instanceMethod ({ cls := "SecretsWorthModel", name := "lowest", desc := "(JJ)V" } : Jvm.MethodName)) ∈ lw_all := lw_g (lw_at lw_m9 32 rfl) rfl
theorem q2084 : (Jvm.Cond.code ({ cls := "SecretsWorthModel", name := "lowest", desc := "(JJ)V" } : Jvm.MethodName) prog_11_method_11_code (7 : Nat) (Option.none : Option Jvm.ClassFile.FieldType)) ∈ lw_all := lw_g (lw_at lw_m9 33 rfl) rfl
theorem q2085 : (Jvm.Cond.methodLink "SecretsWorthModel" (100 : Nat) ({ cls := "SecretsWorthModel", name := "divisor", desc := "(JJ)J" } : Jvm.MethodName)) ∈ lw_all := lw_g (lw_at lw_m9 34 rfl) rfl
theorem q2086 : (Jvm.Cond.static ({ cls := "SecretsWorthModel", name := "divisor", desc := "(JJ)J" } : Jvm.MethodName)) ∈ lw_all := lw_g (lw_at lw_m9 35 rfl) rfl
theorem q2087 : (Jvm.Cond.code ({ cls := "SecretsWorthModel", name := "divisor", desc := "(JJ)J" } : Jvm.MethodName) prog_11_method_7_code (10 : Nat) (Option.some Jvm.ClassFile.FieldType.long)) ∈ lw_all := lw_g (lw_at lw_m9 36 rfl) rfl
theorem q2088 : (Jvm.Cond.methodLink "SecretsWorthModel" (231 : Nat) ({ cls := "SecretsWorthModel", name := "by", desc := "(JJJJ)V" } : Jvm.MethodName)) ∈ lw_all := lw_g (lw_at lw_m9 37 rfl) rfl
theorem q2089 : (Jvm.Cond.privateMethod ({ cls := "SecretsWorthModel", name := "by", desc := "(JJJJ)V" } : Jvm.MethodName)) ∈ lw_tbl := lw_at lw_m9 38 rfl
theorem q2090 : (Jvm.Cond.instanceMethod ({ cls := "SecretsWorthModel", name := "by", desc := "(JJJJ)V" } : Jvm.MethodName)) ∈ lw_all := lw_g (lw_at lw_m9 39 rfl) rfl
theorem q2091 : (Jvm.Cond.code ({ cls := "SecretsWorthModel", name := "by", desc := "(JJJJ)V" } : Jvm.MethodName) prog_11_method_16_code (13 : Nat) (Option.none : Option Jvm.ClassFile.FieldType)) ∈ lw_all := lw_g (lw_at lw_m9 40 rfl) rfl
theorem q2092 : (Jvm.Cond.methodLink "SecretsWorthModel" (110 : Nat) ({ cls := "SecretsWorthModel", name := "product", desc := "(JJ)J" } : Jvm.MethodName)) ∈ lw_all := lw_g (lw_at lw_m9 41 rfl) rfl
theorem q2093 : (Jvm.Cond.privateMethod ({ cls := "SecretsWorthModel", name := "product", desc := "(JJ)J" } : Jvm.MethodName)) ∈ lw_tbl := lw_at lw_m9 42 rfl
theorem q2094 : (Jvm.Cond.instanceMethod ({ cls := "SecretsWorthModel", name := "product", desc := "(JJ)J" } : Jvm.MethodName)) ∈ lw_all := lw_g (lw_at lw_m9 43 rfl) rfl
theorem q2095 : (Jvm.Cond.code ({ cls := "SecretsWorthModel", name := "product", desc := "(JJ)J" } : Jvm.MethodName) prog_11_method_8_code (9 : Nat) (Option.some Jvm.ClassFile.FieldType.long)) ∈ lw_all := lw_g (lw_at lw_m9 44 rfl) rfl
theorem q2096 : (Jvm.Cond.methodLink "SecretsWorthModel" (90 : Nat) ({ cls := "java/lang/Math", name := "multiplyHigh", desc := "(JJ)J" } : Jvm.MethodName)) ∈ lw_all := lw_g (lw_at lw_m9 45 rfl) rfl
theorem q2097 : (Jvm.Cond.static ({ cls := "java/lang/Math", name := "multiplyHigh", desc := "(JJ)J" } : Jvm.MethodName)) ∈ lw_all := lw_g (lw_at lw_m9 46 rfl) rfl
theorem q2098 : (Jvm.Cond.code ({ cls := "java/lang/Math", name := "multiplyHigh", desc := "(JJ)J" } : Jvm.MethodName) prog_21_method_45_code (20 : Nat) (Option.some Jvm.ClassFile.FieldType.long)) ∈ lw_all := lw_g (lw_at lw_m9 47 rfl) rfl
theorem q2099 : (Jvm.Cond.constantLong "java/lang/Math" (138 : Nat) (4294967295 : Int64)) ∈ lw_all := lw_g (lw_at lw_m9 48 rfl) rfl
theorem q2100 : (Jvm.Cond.methodLink "SecretsWorthModel" (120 : Nat) ({ cls := "SecretsWorthModel", name := "difference", desc := "(JJ)J" } : Jvm.MethodName)) ∈ lw_all := lw_g (lw_at lw_m9 49 rfl) rfl
theorem q2101 : (Jvm.Cond.privateMethod ({ cls := "SecretsWorthModel", name := "difference", desc := "(JJ)J" } : Jvm.MethodName)) ∈ lw_tbl := lw_at lw_m9 50 rfl
theorem q2102 : (Jvm.Cond.instanceMethod ({ cls := "SecretsWorthModel", name := "difference", desc := "(JJ)J" } : Jvm.MethodName)) ∈ lw_all := lw_g (lw_at lw_m9 51 rfl) rfl
theorem q2103 : (Jvm.Cond.code ({ cls := "SecretsWorthModel", name := "difference", desc := "(JJ)J" } : Jvm.MethodName) prog_11_method_10_code (7 : Nat) (Option.some Jvm.ClassFile.FieldType.long)) ∈ lw_all := lw_g (lw_at lw_m9 52 rfl) rfl
theorem q2104 : (Jvm.Cond.methodLink "SecretsWorthModel" (242 : Nat) ({ cls := "SecretsWorthModel", name := "is", desc := "(JJ)V" } : Jvm.MethodName)) ∈ lw_all := lw_g (lw_at lw_m9 53 rfl) rfl
theorem q2105 : (Jvm.Cond.privateMethod ({ cls := "SecretsWorthModel", name := "is", desc := "(JJ)V" } : Jvm.MethodName)) ∈ lw_tbl := lw_at lw_m9 54 rfl
theorem q2106 : (Jvm.Cond.instanceMethod ({ cls := "SecretsWorthModel", name := "is", desc := "(JJ)V" } : Jvm.MethodName)) ∈ lw_all := lw_g (lw_at lw_m9 55 rfl) rfl
theorem q2107 : (Jvm.Cond.code ({ cls := "SecretsWorthModel", name := "is", desc := "(JJ)V" } : Jvm.MethodName) prog_11_method_12_code (5 : Nat) (Option.none : Option Jvm.ClassFile.FieldType)) ∈ lw_all := lw_g (lw_at lw_m9 56 rfl) rfl
theorem q2108 : (Jvm.Cond.methodLink "SecretsWorthLaw" (66 : Nat) ({ cls := "SecretsWorthModel", name := "plan", desc := "(IIII)J" } : Jvm.MethodName)) ∈ lw_all := lw_g (lw_at lw_m9 57 rfl) rfl
theorem q2109 : (Jvm.Cond.instanceMethod ({ cls := "SecretsWorthModel", name := "plan", desc := "(IIII)J" } : Jvm.MethodName)) ∈ lw_all := lw_g (lw_at lw_m9 58 rfl) rfl
theorem q2110 : (Jvm.Cond.selects "SecretsWorthModel" ({ cls := "SecretsWorthModel", name := "plan", desc := "(IIII)J" } : Jvm.MethodName) ({ cls := "SecretsWorthModel", name := "plan", desc := "(IIII)J" } : Jvm.MethodName)) ∈ lw_all := lw_g (lw_at lw_m9 59 rfl) rfl
theorem q2111 : (Jvm.Cond.code ({ cls := "SecretsWorthModel", name := "plan", desc := "(IIII)J" } : Jvm.MethodName) prog_11_method_56_code (5 : Nat) (Option.some Jvm.ClassFile.FieldType.long)) ∈ lw_all := lw_g (lw_at lw_m9 60 rfl) rfl
theorem q2112 : (Jvm.Cond.methodLink "SecretsWorthLaw" (71 : Nat) ({ cls := "SecretsWorthModel", name := "mix", desc := "(IIIII)J" } : Jvm.MethodName)) ∈ lw_all := lw_g (lw_at lw_m9 61 rfl) rfl
theorem q2113 : (Jvm.Cond.instanceMethod ({ cls := "SecretsWorthModel", name := "mix", desc := "(IIIII)J" } : Jvm.MethodName)) ∈ lw_all := lw_g (lw_at lw_m9 62 rfl) rfl
theorem q2114 : (Jvm.Cond.selects "SecretsWorthModel" ({ cls := "SecretsWorthModel", name := "mix", desc := "(IIIII)J" } : Jvm.MethodName) ({ cls := "SecretsWorthModel", name := "mix", desc := "(IIIII)J" } : Jvm.MethodName)) ∈ lw_all := lw_g (lw_at lw_m9 63 rfl) rfl
theorem q2115 : (Jvm.Cond.code ({ cls := "SecretsWorthModel", name := "mix", desc := "(IIIII)J" } : Jvm.MethodName) prog_11_method_57_code (7 : Nat) (Option.some Jvm.ClassFile.FieldType.long)) ∈ lw_all := lw_g (lw_at lw_m9 64 rfl) rfl
theorem q2116 : (Jvm.Cond.methodLink "SecretsWorthModel" (279 : Nat) ({ cls := "SecretsWorthModel", name := "weighs", desc := "(I)Z" } : Jvm.MethodName)) ∈ lw_all := lw_g (lw_at lw_m9 65 rfl) rfl
theorem q2117 : (Jvm.Cond.privateMethod ({ cls := "SecretsWorthModel", name := "weighs", desc := "(I)Z" } : Jvm.MethodName)) ∈ lw_tbl := lw_at lw_m9 66 rfl
theorem q2118 : (Jvm.Cond.instanceMethod ({ cls := "SecretsWorthModel", name := "weighs", desc := "(I)Z" } : Jvm.MethodName)) ∈ lw_all := lw_g (lw_at lw_m9 67 rfl) rfl
theorem q2119 : (Jvm.Cond.code ({ cls := "SecretsWorthModel", name := "weighs", desc := "(I)Z" } : Jvm.MethodName) prog_11_method_49_code (14 : Nat) (Option.some Jvm.ClassFile.FieldType.boolean)) ∈ lw_all := lw_g (lw_at lw_m9 68 rfl) rfl
theorem q2120 : (Jvm.Cond.methodLink "SecretsWorthModel" (251 : Nat) ({ cls := "SecretsWorthModel", name := "weighsTwo", desc := "(I)Z" } : Jvm.MethodName)) ∈ lw_all := lw_g (lw_at lw_m9 69 rfl) rfl
theorem q2121 : (Jvm.Cond.privateMethod ({ cls := "SecretsWorthModel", name := "weighsTwo", desc := "(I)Z" } : Jvm.MethodName)) ∈ lw_tbl := lw_at lw_m9 70 rfl
theorem q2122 : (Jvm.Cond.instanceMethod ({ cls := "SecretsWorthModel", name := "weighsTwo", desc := "(I)Z" } : Jvm.MethodName)) ∈ lw_all := lw_g (lw_at lw_m9 71 rfl) rfl
theorem q2123 : (Jvm.Cond.code ({ cls := "SecretsWorthModel", name := "weighsTwo", desc := "(I)Z" } : Jvm.MethodName) prog_11_method_51_code (4 : Nat) (Option.some Jvm.ClassFile.FieldType.boolean)) ∈ lw_all := lw_g (lw_at lw_m9 72 rfl) rfl
theorem q2124 : (Jvm.Cond.methodLink "SecretsWorthModel" (254 : Nat) ({ cls := "SecretsWorthModel", name := "part", desc := "(II)J" } : Jvm.MethodName)) ∈ lw_all := lw_g (lw_at lw_m9 73 rfl) rfl
theorem q2125 : (Jvm.Cond.privateMethod ({ cls := "SecretsWorthModel", name := "part", desc := "(II)J" } : Jvm.MethodName)) ∈ lw_tbl := lw_at lw_m9 74 rfl
theorem q2126 : (Jvm.Cond.instanceMethod ({ cls := "SecretsWorthModel", name := "part", desc := "(II)J" } : Jvm.MethodName)) ∈ lw_all := lw_g (lw_at lw_m9 75 rfl) rfl
theorem q2127 : (Jvm.Cond.code ({ cls := "SecretsWorthModel", name := "part", desc := "(II)J" } : Jvm.MethodName) prog_11_method_48_code (3 : Nat) (Option.some Jvm.ClassFile.FieldType.long)) ∈ lw_all := lw_g (lw_at lw_m9 76 rfl) rfl
theorem q2128 : (Jvm.Cond.methodLink "SecretsWorthModel" (257 : Nat) ({ cls := "SecretsWorthModel", name := "turnsUp", desc := "()V" } : Jvm.MethodName)) ∈ lw_all := lw_g (lw_at lw_m9 77 rfl) rfl
theorem q2129 : (Jvm.Cond.privateMethod ({ cls := "SecretsWorthModel", name := "turnsUp", desc := "()V" } : Jvm.MethodName)) ∈ lw_tbl := lw_at lw_m9 78 rfl
theorem q2130 : (Jvm.Cond.instanceMethod ({ cls := "SecretsWorthModel", name := "turnsUp", desc := "()V" } : Jvm.MethodName)) ∈ lw_all := lw_g (lw_at lw_m9 79 rfl) rfl
theorem q2131 : (Jvm.Cond.code ({ cls := "SecretsWorthModel", name := "turnsUp", desc := "()V" } : Jvm.MethodName) prog_11_method_50_code (1 : Nat) (Option.none : Option Jvm.ClassFile.FieldType)) ∈ lw_all := lw_g (lw_at lw_m9 80 rfl) rfl
theorem q2132 : (Jvm.Cond.methodLink "SecretsWorthModel" (282 : Nat) ({ cls := "SecretsWorthModel", name := "areAbove", desc := "(J)Z" } : Jvm.MethodName)) ∈ lw_all := lw_g (lw_at lw_m9 81 rfl) rfl
theorem q2133 : (Jvm.Cond.privateMethod ({ cls := "SecretsWorthModel", name := "areAbove", desc := "(J)Z" } : Jvm.MethodName)) ∈ lw_tbl := lw_at lw_m9 82 rfl
theorem q2134 : (Jvm.Cond.instanceMethod ({ cls := "SecretsWorthModel", name := "areAbove", desc := "(J)Z" } : Jvm.MethodName)) ∈ lw_all := lw_g (lw_at lw_m9 83 rfl) rfl
theorem q2135 : (Jvm.Cond.code ({ cls := "SecretsWorthModel", name := "areAbove", desc := "(J)Z" } : Jvm.MethodName) prog_11_method_52_code (5 : Nat) (Option.some Jvm.ClassFile.FieldType.boolean)) ∈ lw_all := lw_g (lw_at lw_m9 84 rfl) rfl
theorem q2136 : (Jvm.Cond.methodLink "SecretsWorthModel" (286 : Nat) ({ cls := "SecretsWorthModel", name := "mixes", desc := "()V" } : Jvm.MethodName)) ∈ lw_all := lw_g (lw_at lw_m9 85 rfl) rfl
theorem q2137 : (Jvm.Cond.privateMethod ({ cls := "SecretsWorthModel", name := "mixes", desc := "()V" } : Jvm.MethodName)) ∈ lw_tbl := lw_at lw_m9 86 rfl
theorem q2138 : (Jvm.Cond.instanceMethod ({ cls := "SecretsWorthModel", name := "mixes", desc := "()V" } : Jvm.MethodName)) ∈ lw_all := lw_g (lw_at lw_m9 87 rfl) rfl
theorem q2139 : (Jvm.Cond.code ({ cls := "SecretsWorthModel", name := "mixes", desc := "()V" } : Jvm.MethodName) prog_11_method_53_code (10 : Nat) (Option.none : Option Jvm.ClassFile.FieldType)) ∈ lw_all := lw_g (lw_at lw_m9 88 rfl) rfl
theorem q2140 : (Jvm.Cond.methodLink "SecretsWorthModel" (263 : Nat) ({ cls := "SecretsWorthModel", name := "times", desc := "(JJJJ)V" } : Jvm.MethodName)) ∈ lw_all := lw_g (lw_at lw_m9 89 rfl) rfl
theorem q2141 : (Jvm.Cond.privateMethod ({ cls := "SecretsWorthModel", name := "times", desc := "(JJJJ)V" } : Jvm.MethodName)) ∈ lw_tbl := lw_at lw_m9 90 rfl
theorem q2142 : (Jvm.Cond.instanceMethod ({ cls := "SecretsWorthModel", name := "times", desc := "(JJJJ)V" } : Jvm.MethodName)) ∈ lw_all := lw_g (lw_at lw_m9 91 rfl) rfl
theorem q2143 : (Jvm.Cond.code ({ cls := "SecretsWorthModel", name := "times", desc := "(JJJJ)V" } : Jvm.MethodName) prog_11_method_15_code (11 : Nat) (Option.none : Option Jvm.ClassFile.FieldType)) ∈ lw_all := lw_g (lw_at lw_m9 92 rfl) rfl
theorem q2144 : (Jvm.Cond.methodLink "SecretsWorthModel" (266 : Nat) ({ cls := "SecretsWorthModel", name := "add", desc := "(JJJJ)V" } : Jvm.MethodName)) ∈ lw_all := lw_g (lw_at lw_m9 93 rfl) rfl
theorem q2145 : (Jvm.Cond.privateMethod ({ cls := "SecretsWorthModel", name := "add", desc := "(JJJJ)V" } : Jvm.MethodName)) ∈ lw_tbl := lw_at lw_m9 94 rfl
theorem q2146 : (Jvm.Cond.instanceMethod ({ cls := "SecretsWorthModel", name := "add", desc := "(JJJJ)V" } : Jvm.MethodName)) ∈ lw_all := lw_g (lw_at lw_m9 95 rfl) rfl
theorem q2147 : (Jvm.Cond.code ({ cls := "SecretsWorthModel", name := "add", desc := "(JJJJ)V" } : Jvm.MethodName) prog_11_method_13_code (11 : Nat) (Option.none : Option Jvm.ClassFile.FieldType)) ∈ lw_all := lw_g (lw_at lw_m9 96 rfl) rfl
theorem q2148 : (Jvm.Cond.methodLink "SecretsWorthModel" (113 : Nat) ({ cls := "SecretsWorthModel", name := "sum", desc := "(JJ)J" } : Jvm.MethodName)) ∈ lw_all := lw_g (lw_at lw_m9 97 rfl) rfl
theorem q2149 : (Jvm.Cond.privateMethod ({ cls := "SecretsWorthModel", name := "sum", desc := "(JJ)J" } : Jvm.MethodName)) ∈ lw_tbl := lw_at lw_m9 98 rfl
theorem q2150 : (Jvm.Cond.instanceMethod ({ cls := "SecretsWorthModel", name := "sum", desc := "(JJ)J" } : Jvm.MethodName)) ∈ lw_all := lw_g (lw_at lw_m9 99 rfl) rfl
theorem q2151 : (Jvm.Cond.code ({ cls := "SecretsWorthModel", name := "sum", desc := "(JJ)J" } : Jvm.MethodName) prog_11_method_9_code (7 : Nat) (Option.some Jvm.ClassFile.FieldType.long)) ∈ lw_all := lw_g (lw_at lw_m9 100 rfl) rfl
theorem q2152 : (Jvm.Cond.methodLink "SecretsWorthLaw" (75 : Nat) ({ cls := "SecretsWorthModel", name := "hull", desc := "(II)J" } : Jvm.MethodName)) ∈ lw_all := lw_g (lw_at lw_m9 101 rfl) rfl
theorem q2153 : (Jvm.Cond.instanceMethod ({ cls := "SecretsWorthModel", name := "hull", desc := "(II)J" } : Jvm.MethodName)) ∈ lw_all := lw_g (lw_at lw_m9 102 rfl) rfl
theorem q2154 : (Jvm.Cond.selects "SecretsWorthModel" ({ cls := "SecretsWorthModel", name := "hull", desc := "(II)J" } : Jvm.MethodName) ({ cls := "SecretsWorthModel", name := "hull", desc := "(II)J" } : Jvm.MethodName)) ∈ lw_all := lw_g (lw_at lw_m9 103 rfl) rfl
theorem q2155 : (Jvm.Cond.code ({ cls := "SecretsWorthModel", name := "hull", desc := "(II)J" } : Jvm.MethodName) prog_11_method_60_code (3 : Nat) (Option.some Jvm.ClassFile.FieldType.long)) ∈ lw_all := lw_g (lw_at lw_m9 104 rfl) rfl
theorem q2156 : (Jvm.Cond.methodLink "SecretsWorthModel" (307 : Nat) ({ cls := "SecretsWorthModel", name := "hullOf", desc := "(I)V" } : Jvm.MethodName)) ∈ lw_all := lw_g (lw_at lw_m9 105 rfl) rfl
theorem q2157 : (Jvm.Cond.privateMethod ({ cls := "SecretsWorthModel", name := "hullOf", desc := "(I)V" } : Jvm.MethodName)) ∈ lw_tbl := lw_at lw_m9 106 rfl
theorem q2158 : (Jvm.Cond.instanceMethod ({ cls := "SecretsWorthModel", name := "hullOf", desc := "(I)V" } : Jvm.MethodName)) ∈ lw_all := lw_g (lw_at lw_m9 107 rfl) rfl
theorem q2159 : (Jvm.Cond.code ({ cls := "SecretsWorthModel", name := "hullOf", desc := "(I)V" } : Jvm.MethodName) prog_11_method_59_code (6 : Nat) (Option.none : Option Jvm.ClassFile.FieldType)) ∈ lw_all := lw_g (lw_at lw_m9 108 rfl) rfl
theorem q2160 : (Jvm.Cond.methodLink "SecretsWorthModel" (304 : Nat) ({ cls := "SecretsWorthModel", name := "tries", desc := "(I)V" } : Jvm.MethodName)) ∈ lw_all := lw_g (lw_at lw_m9 109 rfl) rfl
theorem q2161 : (Jvm.Cond.privateMethod ({ cls := "SecretsWorthModel", name := "tries", desc := "(I)V" } : Jvm.MethodName)) ∈ lw_tbl := lw_at lw_m9 110 rfl
theorem q2162 : (Jvm.Cond.instanceMethod ({ cls := "SecretsWorthModel", name := "tries", desc := "(I)V" } : Jvm.MethodName)) ∈ lw_all := lw_g (lw_at lw_m9 111 rfl) rfl
theorem q2163 : (Jvm.Cond.code ({ cls := "SecretsWorthModel", name := "tries", desc := "(I)V" } : Jvm.MethodName) prog_11_method_58_code (7 : Nat) (Option.none : Option Jvm.ClassFile.FieldType)) ∈ lw_all := lw_g (lw_at lw_m9 112 rfl) rfl
theorem q2164 : (Jvm.Cond.methodLink "SecretsWorthModel" (298 : Nat) ({ cls := "SecretsWorthModel", name := "less", desc := "(JJJJ)V" } : Jvm.MethodName)) ∈ lw_all := lw_g (lw_at lw_m9 113 rfl) rfl
theorem q2165 : (Jvm.Cond.privateMethod ({ cls := "SecretsWorthModel", name := "less", desc := "(JJJJ)V" } : Jvm.MethodName)) ∈ lw_tbl := lw_at lw_m9 114 rfl
theorem q2166 : (Jvm.Cond.instanceMethod ({ cls := "SecretsWorthModel", name := "less", desc := "(JJJJ)V" } : Jvm.MethodName)) ∈ lw_all := lw_g (lw_at lw_m9 115 rfl) rfl
theorem q2167 : (Jvm.Cond.code ({ cls := "SecretsWorthModel", name := "less", desc := "(JJJJ)V" } : Jvm.MethodName) prog_11_method_14_code (11 : Nat) (Option.none : Option Jvm.ClassFile.FieldType)) ∈ lw_all := lw_g (lw_at lw_m9 116 rfl) rfl
theorem q2168 : (Jvm.Cond.methodLink "SecretsWorthLaw" (79 : Nat) ({ cls := "SecretsWorthModel", name := "best", desc := "(II)I" } : Jvm.MethodName)) ∈ lw_all := lw_g (lw_at lw_m9 117 rfl) rfl
theorem q2169 : (Jvm.Cond.instanceMethod ({ cls := "SecretsWorthModel", name := "best", desc := "(II)I" } : Jvm.MethodName)) ∈ lw_all := lw_g (lw_at lw_m9 118 rfl) rfl
theorem q2170 : (Jvm.Cond.selects "SecretsWorthModel" ({ cls := "SecretsWorthModel", name := "best", desc := "(II)I" } : Jvm.MethodName) ({ cls := "SecretsWorthModel", name := "best", desc := "(II)I" } : Jvm.MethodName)) ∈ lw_all := lw_g (lw_at lw_m9 119 rfl) rfl
theorem q2171 : (Jvm.Cond.code ({ cls := "SecretsWorthModel", name := "best", desc := "(II)I" } : Jvm.MethodName) prog_11_method_61_code (3 : Nat) (Option.some Jvm.ClassFile.FieldType.int)) ∈ lw_all := lw_g (lw_at lw_m9 120 rfl) rfl
theorem q2172 : (Jvm.Cond.methodLink "SecretsWorthLaw" (84 : Nat) ({ cls := "SecretsWorthModel", name := "weight", desc := "(III)J" } : Jvm.MethodName)) ∈ lw_all := lw_g (lw_at lw_m9 121 rfl) rfl
theorem q2173 : (Jvm.Cond.instanceMethod ({ cls := "SecretsWorthModel", name := "weight", desc := "(III)J" } : Jvm.MethodName)) ∈ lw_all := lw_g (lw_at lw_m9 122 rfl) rfl
theorem q2174 : (Jvm.Cond.selects "SecretsWorthModel" ({ cls := "SecretsWorthModel", name := "weight", desc := "(III)J" } : Jvm.MethodName) ({ cls := "SecretsWorthModel", name := "weight", desc := "(III)J" } : Jvm.MethodName)) ∈ lw_all := lw_g (lw_at lw_m9 123 rfl) rfl
theorem q2175 : (Jvm.Cond.code ({ cls := "SecretsWorthModel", name := "weight", desc := "(III)J" } : Jvm.MethodName) prog_11_method_62_code (4 : Nat) (Option.some Jvm.ClassFile.FieldType.long)) ∈ lw_all := lw_g (lw_at lw_m9 124 rfl) rfl
theorem q2176 : (Jvm.Cond.methodLink "SecretsWorthLaw" (88 : Nat) ({ cls := "SecretsWorthModel", name := "points", desc := "(I)I" } : Jvm.MethodName)) ∈ lw_all := lw_g (lw_at lw_m9 125 rfl) rfl
theorem q2177 : (Jvm.Cond.instanceMethod ({ cls := "SecretsWorthModel", name := "points", desc := "(I)I" } : Jvm.MethodName)) ∈ lw_all := lw_g (lw_at lw_m9 126 rfl) rfl
theorem q2178 : (Jvm.Cond.selects "SecretsWorthModel" ({ cls := "SecretsWorthModel", name := "points", desc := "(I)I" } : Jvm.MethodName) ({ cls := "SecretsWorthModel", name := "points", desc := "(I)I" } : Jvm.MethodName)) ∈ lw_all := lw_g (lw_at lw_m9 127 rfl) rfl
theorem q2179 : (Jvm.Cond.code ({ cls := "SecretsWorthModel", name := "points", desc := "(I)I" } : Jvm.MethodName) prog_11_method_63_code (10 : Nat) (Option.some Jvm.ClassFile.FieldType.int)) ∈ lw_all := lw_g (lw_at lw_m9 128 rfl) rfl
theorem q2180 : (Jvm.Cond.methodLink "SecretsWorthLaw" (92 : Nat) ({ cls := "SecretsWorthModel", name := "price", desc := "(III)J" } : Jvm.MethodName)) ∈ lw_all := lw_g (lw_at lw_m9 129 rfl) rfl
theorem q2181 : (Jvm.Cond.instanceMethod ({ cls := "SecretsWorthModel", name := "price", desc := "(III)J" } : Jvm.MethodName)) ∈ lw_all := lw_g (lw_at lw_m9 130 rfl) rfl
theorem q2182 : (Jvm.Cond.selects "SecretsWorthModel" ({ cls := "SecretsWorthModel", name := "price", desc := "(III)J" } : Jvm.MethodName) ({ cls := "SecretsWorthModel", name := "price", desc := "(III)J" } : Jvm.MethodName)) ∈ lw_all := lw_g (lw_at lw_m9 131 rfl) rfl
theorem q2183 : (Jvm.Cond.code ({ cls := "SecretsWorthModel", name := "price", desc := "(III)J" } : Jvm.MethodName) prog_11_method_66_code (5 : Nat) (Option.some Jvm.ClassFile.FieldType.long)) ∈ lw_all := lw_g (lw_at lw_m9 132 rfl) rfl
theorem q2184 : (Jvm.Cond.methodLink "SecretsWorthModel" (313 : Nat) ({ cls := "SecretsWorthModel", name := "isPriced", desc := "(I)Z" } : Jvm.MethodName)) ∈ lw_all := lw_g (lw_at lw_m9 133 rfl) rfl
theorem q2185 : (Jvm.Cond.privateMethod ({ cls := "SecretsWorthModel", name := "isPriced", desc := "(I)Z" } : Jvm.MethodName)) ∈ lw_tbl := lw_at lw_m9 134 rfl
theorem q2186 : (Jvm.Cond.instanceMethod ({ cls := "SecretsWorthModel", name := "isPriced", desc := "(I)Z" } : Jvm.MethodName)) ∈ lw_all := lw_g (lw_at lw_m9 135 rfl) rfl
theorem q2187 : (Jvm.Cond.code ({ cls := "SecretsWorthModel", name := "isPriced", desc := "(I)Z" } : Jvm.MethodName) prog_11_method_65_code (6 : Nat) (Option.some Jvm.ClassFile.FieldType.boolean)) ∈ lw_all := lw_g (lw_at lw_m9 136 rfl) rfl
theorem q2188 : (Jvm.Cond.methodLink "SecretsWorthModel" (310 : Nat) ({ cls := "SecretsWorthModel", name := "holds", desc := "()Z" } : Jvm.MethodName)) ∈ lw_all := lw_g (lw_at lw_m9 137 rfl) rfl
theorem q2189 : (Jvm.Cond.privateMethod ({ cls := "SecretsWorthModel", name := "holds", desc := "()Z" } : Jvm.MethodName)) ∈ lw_tbl := lw_at lw_m9 138 rfl
theorem q2190 : (Jvm.Cond.instanceMethod ({ cls := "SecretsWorthModel", name := "holds", desc := "()Z" } : Jvm.MethodName)) ∈ lw_all := lw_g (lw_at lw_m9 139 rfl) rfl
theorem q2191 : (Jvm.Cond.code ({ cls := "SecretsWorthModel", name := "holds", desc := "()Z" } : Jvm.MethodName) prog_11_method_64_code (6 : Nat) (Option.some Jvm.ClassFile.FieldType.boolean)) ∈ lw_all := lw_g (lw_at lw_m9 140 rfl) rfl
theorem q2192 : (Jvm.Cond.methodLink "SecretsWorthModel" (316 : Nat) ({ cls := "SecretsWorthModel", name := "corner", desc := "(I)I" } : Jvm.MethodName)) ∈ lw_all := lw_g (lw_at lw_m9 141 rfl) rfl
theorem q2193 : (Jvm.Cond.privateMethod ({ cls := "SecretsWorthModel", name := "corner", desc := "(I)I" } : Jvm.MethodName)) ∈ lw_tbl := lw_at lw_m9 142 rfl
theorem q2194 : (Jvm.Cond.instanceMethod ({ cls := "SecretsWorthModel", name := "corner", desc := "(I)I" } : Jvm.MethodName)) ∈ lw_all := lw_g (lw_at lw_m9 143 rfl) rfl
theorem q2195 : (Jvm.Cond.code ({ cls := "SecretsWorthModel", name := "corner", desc := "(I)I" } : Jvm.MethodName) prog_11_method_20_code (4 : Nat) (Option.some Jvm.ClassFile.FieldType.int)) ∈ lw_all := lw_g (lw_at lw_m9 144 rfl) rfl
theorem q2196 : (Jvm.Cond.methodLink "SecretsWorthLaw" (96 : Nat) ({ cls := "SecretsWorthModel", name := "once", desc := "(II)J" } : Jvm.MethodName)) ∈ lw_all := lw_g (lw_at lw_m9 145 rfl) rfl
theorem q2197 : (Jvm.Cond.instanceMethod ({ cls := "SecretsWorthModel", name := "once", desc := "(II)J" } : Jvm.MethodName)) ∈ lw_all := lw_g (lw_at lw_m9 146 rfl) rfl
theorem q2198 : (Jvm.Cond.selects "SecretsWorthModel" ({ cls := "SecretsWorthModel", name := "once", desc := "(II)J" } : Jvm.MethodName) ({ cls := "SecretsWorthModel", name := "once", desc := "(II)J" } : Jvm.MethodName)) ∈ lw_all := lw_g (lw_at lw_m9 147 rfl) rfl
theorem q2199 : (Jvm.Cond.code ({ cls := "SecretsWorthModel", name := "once", desc := "(II)J" } : Jvm.MethodName) prog_11_method_68_code (3 : Nat) (Option.some Jvm.ClassFile.FieldType.long)) ∈ lw_all := lw_g (lw_at lw_m9 148 rfl) rfl
theorem q2200 : (Jvm.Cond.methodLink "SecretsWorthModel" (319 : Nat) ({ cls := "SecretsWorthModel", name := "once", desc := "(I)V" } : Jvm.MethodName)) ∈ lw_all := lw_g (lw_at lw_m9 149 rfl) rfl
theorem q2201 : (Jvm.Cond.privateMethod ({ cls := "SecretsWorthModel", name := "once", desc := "(I)V" } : Jvm.MethodName)) ∈ lw_tbl := lw_at lw_m9 150 rfl
theorem q2202 : (Jvm.Cond.instanceMethod ({ cls := "SecretsWorthModel", name := "once", desc := "(I)V" } : Jvm.MethodName)) ∈ lw_all := lw_g (lw_at lw_m9 151 rfl) rfl
theorem q2203 : (Jvm.Cond.code ({ cls := "SecretsWorthModel", name := "once", desc := "(I)V" } : Jvm.MethodName) prog_11_method_67_code (8 : Nat) (Option.none : Option Jvm.ClassFile.FieldType)) ∈ lw_all := lw_g (lw_at lw_m9 152 rfl) rfl
theorem q2204 : (Jvm.Cond.methodLink "SecretsWorthLaw" (100 : Nat) ({ cls := "SecretsWorthModel", name := "gap", desc := "(II)J" } : Jvm.MethodName)) ∈ lw_all := lw_g (lw_at lw_m9 153 rfl) rfl
theorem q2205 : (Jvm.Cond.instanceMethod ({ cls := "SecretsWorthModel", name := "gap", desc := "(II)J" } : Jvm.MethodName)) ∈ lw_all := lw_g (lw_at lw_m9 154 rfl) rfl
theorem q2206 : (Jvm.Cond.selects "SecretsWorthModel" ({ cls := "SecretsWorthModel", name := "gap", desc := "(II)J" } : Jvm.MethodName) ({ cls := "SecretsWorthModel", name := "gap", desc := "(II)J" } : Jvm.MethodName)) ∈ lw_all := lw_g (lw_at lw_m9 155 rfl) rfl
theorem q2207 : (Jvm.Cond.code ({ cls := "SecretsWorthModel", name := "gap", desc := "(II)J" } : Jvm.MethodName) prog_11_method_69_code (7 : Nat) (Option.some Jvm.ClassFile.FieldType.long)) ∈ lw_all := lw_g (lw_at lw_m9 156 rfl) rfl
theorem q2208 : (Jvm.Cond.methodLink "SecretsWorthLaw" (104 : Nat) ({ cls := "SecretsWorthModel", name := "posterior", desc := "(III)J" } : Jvm.MethodName)) ∈ lw_all := lw_g (lw_at lw_m9 157 rfl) rfl
theorem q2209 : (Jvm.Cond.instanceMethod ({ cls := "SecretsWorthModel", name := "posterior", desc := "(III)J" } : Jvm.MethodName)) ∈ lw_all := lw_g (lw_at lw_m9 158 rfl) rfl
theorem q2210 : (Jvm.Cond.selects "SecretsWorthModel" ({ cls := "SecretsWorthModel", name := "posterior", desc := "(III)J" } : Jvm.MethodName) ({ cls := "SecretsWorthModel", name := "posterior", desc := "(III)J" } : Jvm.MethodName)) ∈ lw_all := lw_g (lw_at lw_m9 159 rfl) rfl
theorem q2211 : (Jvm.Cond.code ({ cls := "SecretsWorthModel", name := "posterior", desc := "(III)J" } : Jvm.MethodName) prog_11_method_70_code (7 : Nat) (Option.some Jvm.ClassFile.FieldType.long)) ∈ lw_all := lw_g (lw_at lw_m9 160 rfl) rfl
theorem q2212 : (Jvm.Cond.constantLong "SecretsWorthModel" (322 : Nat) (999 : Int64)) ∈ lw_all := lw_g (lw_at lw_m9 161 rfl) rfl
theorem q2213 : (Jvm.Cond.methodLink "SecretsWorthLaw" (108 : Nat) ({ cls := "SecretsWorthModel", name := "feed", desc := "(I)I" } : Jvm.MethodName)) ∈ lw_all := lw_g (lw_at lw_m9 162 rfl) rfl
theorem q2214 : (Jvm.Cond.instanceMethod ({ cls := "SecretsWorthModel", name := "feed", desc := "(I)I" } : Jvm.MethodName)) ∈ lw_all := lw_g (lw_at lw_m9 163 rfl) rfl
theorem q2215 : (Jvm.Cond.selects "SecretsWorthModel" ({ cls := "SecretsWorthModel", name := "feed", desc := "(I)I" } : Jvm.MethodName) ({ cls := "SecretsWorthModel", name := "feed", desc := "(I)I" } : Jvm.MethodName)) ∈ lw_all := lw_g (lw_at lw_m9 164 rfl) rfl
theorem q2216 : (Jvm.Cond.code ({ cls := "SecretsWorthModel", name := "feed", desc := "(I)I" } : Jvm.MethodName) prog_11_method_71_code (2 : Nat) (Option.some Jvm.ClassFile.FieldType.int)) ∈ lw_all := lw_g (lw_at lw_m9 165 rfl) rfl
theorem q2217 : (Jvm.Cond.constantLong "SecretsWorthModel" (324 : Nat) (255 : Int64)) ∈ lw_all := lw_g (lw_at lw_m9 166 rfl) rfl
theorem q2218 : (Jvm.Cond.methodLink "SecretsWorthLaw" (113 : Nat) ({ cls := "SecretsWorthModel", name := "read", desc := "()I" } : Jvm.MethodName)) ∈ lw_all := lw_g (lw_at lw_m9 167 rfl) rfl
theorem q2219 : (Jvm.Cond.instanceMethod ({ cls := "SecretsWorthModel", name := "read", desc := "()I" } : Jvm.MethodName)) ∈ lw_all := lw_g (lw_at lw_m9 168 rfl) rfl
theorem q2220 : (Jvm.Cond.selects "SecretsWorthModel" ({ cls := "SecretsWorthModel", name := "read", desc := "()I" } : Jvm.MethodName) ({ cls := "SecretsWorthModel", name := "read", desc := "()I" } : Jvm.MethodName)) ∈ lw_all := lw_g (lw_at lw_m9 169 rfl) rfl
theorem q2221 : (Jvm.Cond.code ({ cls := "SecretsWorthModel", name := "read", desc := "()I" } : Jvm.MethodName) prog_11_method_85_code (3 : Nat) (Option.some Jvm.ClassFile.FieldType.int)) ∈ lw_all := lw_g (lw_at lw_m9 170 rfl) rfl
theorem q2222 : (Jvm.Cond.methodLink "SecretsWorthModel" (415 : Nat) ({ cls := "SecretsWorthModel", name := "move", desc := "([I[I)V" } : Jvm.MethodName)) ∈ lw_all := lw_g (lw_at lw_m9 171 rfl) rfl
theorem q2223 : (Jvm.Cond.static ({ cls := "SecretsWorthModel", name := "move", desc := "([I[I)V" } : Jvm.MethodName)) ∈ lw_all := lw_g (lw_at lw_m9 172 rfl) rfl
theorem q2224 : (Jvm.Cond.code ({ cls := "SecretsWorthModel", name := "move", desc := "([I[I)V" } : Jvm.MethodName) prog_11_method_84_code (3 : Nat) (Option.none : Option Jvm.ClassFile.FieldType)) ∈ lw_all := lw_g (lw_at lw_m9 173 rfl) rfl
theorem q2225 : (Jvm.Cond.methodLink "SecretsWorthModel" (370 : Nat) ({ cls := "SecretsWorthModel", name := "goesOn", desc := "()V" } : Jvm.MethodName)) ∈ lw_all := lw_g (lw_at lw_m9 174 rfl) rfl
theorem q2226 : (Jvm.Cond.privateMethod ({ cls := "SecretsWorthModel", name := "goesOn", desc := "()V" } : Jvm.MethodName)) ∈ lw_tbl := lw_at lw_m9 175 rfl
theorem q2227 : (Jvm.Cond.instanceMethod ({ cls := "SecretsWorthModel", name := "goesOn", desc := "()V" } : Jvm.MethodName)) ∈ lw_all := lw_g (lw_at lw_m9 176 rfl) rfl
theorem q2228 : (Jvm.Cond.code ({ cls := "SecretsWorthModel", name := "goesOn", desc := "()V" } : Jvm.MethodName) prog_11_method_75_code (2 : Nat) (Option.none : Option Jvm.ClassFile.FieldType)) ∈ lw_all := lw_g (lw_at lw_m9 177 rfl) rfl
theorem q2229 : (Jvm.Cond.methodLink "SecretsWorthModel" (343 : Nat) ({ cls := "SecretsWorthModel", name := "isLetter", desc := "()Z" } : Jvm.MethodName)) ∈ lw_all := lw_g (lw_at lw_m9 178 rfl) rfl
theorem q2230 : (Jvm.Cond.privateMethod ({ cls := "SecretsWorthModel", name := "isLetter", desc := "()Z" } : Jvm.MethodName)) ∈ lw_tbl := lw_at lw_m9 179 rfl
theorem q2231 : (Jvm.Cond.instanceMethod ({ cls := "SecretsWorthModel", name := "isLetter", desc := "()Z" } : Jvm.MethodName)) ∈ lw_all := lw_g (lw_at lw_m9 180 rfl) rfl
theorem q2232 : (Jvm.Cond.code ({ cls := "SecretsWorthModel", name := "isLetter", desc := "()Z" } : Jvm.MethodName) prog_11_method_72_code (1 : Nat) (Option.some Jvm.ClassFile.FieldType.boolean)) ∈ lw_all := lw_g (lw_at lw_m9 181 rfl) rfl
theorem q2233 : (Jvm.Cond.methodLink "SecretsWorthModel" (352 : Nat) ({ cls := "SecretsWorthModel", name := "isDigit", desc := "()Z" } : Jvm.MethodName)) ∈ lw_all := lw_g (lw_at lw_m9 182 rfl) rfl
theorem q2234 : (Jvm.Cond.privateMethod ({ cls := "SecretsWorthModel", name := "isDigit", desc := "()Z" } : Jvm.MethodName)) ∈ lw_tbl := lw_at lw_m9 183 rfl
theorem q2235 : (Jvm.Cond.instanceMethod ({ cls := "SecretsWorthModel", name := "isDigit", desc := "()Z" } : Jvm.MethodName)) ∈ lw_all := lw_g (lw_at lw_m9 184 rfl) rfl
theorem q2236 : (Jvm.Cond.code ({ cls := "SecretsWorthModel", name := "isDigit", desc := "()Z" } : Jvm.MethodName) prog_11_method_73_code (1 : Nat) (Option.some Jvm.ClassFile.FieldType.boolean)) ∈ lw_all := lw_g (lw_at lw_m9 185 rfl) rfl
theorem q2237 : (Jvm.Cond.methodLink "SecretsWorthModel" (358 : Nat) ({ cls := "SecretsWorthModel", name := "fails", desc := "()V" } : Jvm.MethodName)) ∈ lw_all := lw_g (lw_at lw_m9 186 rfl) rfl
theorem q2238 : (Jvm.Cond.privateMethod ({ cls := "SecretsWorthModel", name := "fails", desc := "()V" } : Jvm.MethodName)) ∈ lw_tbl := lw_at lw_m9 187 rfl
theorem q2239 : (Jvm.Cond.instanceMethod ({ cls := "SecretsWorthModel", name := "fails", desc := "()V" } : Jvm.MethodName)) ∈ lw_all := lw_g (lw_at lw_m9 188 rfl) rfl
theorem q2240 : (Jvm.Cond.code ({ cls := "SecretsWorthModel", name := "fails", desc := "()V" } : Jvm.MethodName) prog_11_method_74_code (1 : Nat) (Option.none : Option Jvm.ClassFile.FieldType)) ∈ lw_all := lw_g (lw_at lw_m9 189 rfl) rfl
theorem q2241 : (Jvm.Cond.methodLink "SecretsWorthModel" (419 : Nat) ({ cls := "SecretsWorthModel", name := "statement", desc := "()V" } : Jvm.MethodName)) ∈ lw_all := lw_g (lw_at lw_m9 190 rfl) rfl
theorem q2242 : (Jvm.Cond.privateMethod ({ cls := "SecretsWorthModel", name := "statement", desc := "()V" } : Jvm.MethodName)) ∈ lw_tbl := lw_at lw_m9 191 rfl
theorem q2243 : (Jvm.Cond.instanceMethod ({ cls := "SecretsWorthModel", name := "statement", desc := "()V" } : Jvm.MethodName)) ∈ lw_all := lw_g (lw_at lw_m9 192 rfl) rfl
theorem q2244 : (Jvm.Cond.code ({ cls := "SecretsWorthModel", name := "statement", desc := "()V" } : Jvm.MethodName) prog_11_method_80_code (3 : Nat) (Option.none : Option Jvm.ClassFile.FieldType)) ∈ lw_all := lw_g (lw_at lw_m9 193 rfl) rfl
theorem q2245 : (Jvm.Cond.stringRef "SecretsWorthModel" (378 : Nat) "states") ∈ lw_tbl := lw_at lw_m9 194 rfl
theorem q2246 : (Jvm.Cond.methodLink "SecretsWorthModel" (380 : Nat) ({ cls := "SecretsWorthModel", name := "isWord", desc := "(Ljava/lang/String;)Z" } : Jvm.MethodName)) ∈ lw_all := lw_g (lw_at lw_m9 195 rfl) rfl
theorem q2247 : (Jvm.Cond.privateMethod ({ cls := "SecretsWorthModel", name := "isWord", desc := "(Ljava/lang/String;)Z" } : Jvm.MethodName)) ∈ lw_tbl := lw_at lw_m9 196 rfl
theorem q2248 : (Jvm.Cond.instanceMethod ({ cls := "SecretsWorthModel", name := "isWord", desc := "(Ljava/lang/String;)Z" } : Jvm.MethodName)) ∈ lw_all := lw_g (lw_at lw_m9 197 rfl) rfl
theorem q2249 : (Jvm.Cond.code ({ cls := "SecretsWorthModel", name := "isWord", desc := "(Ljava/lang/String;)Z" } : Jvm.MethodName) prog_11_method_76_code (4 : Nat) (Option.some Jvm.ClassFile.FieldType.boolean)) ∈ lw_all := lw_g (lw_at lw_m9 198 rfl) rfl
theorem q2250 : (Jvm.Cond.methodLink "SecretsWorthModel" (361 : Nat) ({ cls := "java/lang/String", name := "length", desc := "()I" } : Jvm.MethodName)) ∈ lw_all := lw_g (lw_at lw_m9 199 rfl) rfl
theorem q2251 : (Jvm.Cond.methodLink "SecretsWorthModel" (366 : Nat) ({ cls := "java/lang/String", name := "charAt", desc := "(I)C" } : Jvm.MethodName)) ∈ lw_all := lw_g (lw_at lw_m9 200 rfl) rfl
theorem q2252 : (Jvm.Cond.stringRef "SecretsWorthModel" (384 : Nat) "parts") ∈ lw_tbl := lw_at lw_m9 201 rfl
theorem q2253 : (Jvm.Cond.methodLink "SecretsWorthModel" (376 : Nat) ({ cls := "SecretsWorthModel", name := "takes", desc := "(II)I" } : Jvm.MethodName)) ∈ lw_all := lw_g (lw_at lw_m9 202 rfl) rfl
theorem q2254 : (Jvm.Cond.privateMethod ({ cls := "SecretsWorthModel", name := "takes", desc := "(II)I" } : Jvm.MethodName)) ∈ lw_tbl := lw_at lw_m9 203 rfl
theorem q2255 : (Jvm.Cond.instanceMethod ({ cls := "SecretsWorthModel", name := "takes", desc := "(II)I" } : Jvm.MethodName)) ∈ lw_all := lw_g (lw_at lw_m9 204 rfl) rfl
theorem q2256 : (Jvm.Cond.code ({ cls := "SecretsWorthModel", name := "takes", desc := "(II)I" } : Jvm.MethodName) prog_11_method_78_code (4 : Nat) (Option.some Jvm.ClassFile.FieldType.int)) ∈ lw_all := lw_g (lw_at lw_m9 205 rfl) rfl
theorem q2257 : (Jvm.Cond.stringRef "SecretsWorthModel" (389 : Nat) "size") ∈ lw_tbl := lw_at lw_m9 206 rfl
theorem q2258 : (Jvm.Cond.stringRef "SecretsWorthModel" (391 : Nat) "game") ∈ lw_tbl := lw_at lw_m9 207 rfl
theorem q2259 : (Jvm.Cond.methodLink "SecretsWorthModel" (393 : Nat) ({ cls := "SecretsWorthModel", name := "takesSigned", desc := "(I)I" } : Jvm.MethodName)) ∈ lw_all := lw_g (lw_at lw_m9 208 rfl) rfl
theorem q2260 : (Jvm.Cond.privateMethod ({ cls := "SecretsWorthModel", name := "takesSigned", desc := "(I)I" } : Jvm.MethodName)) ∈ lw_tbl := lw_at lw_m9 209 rfl
theorem q2261 : (Jvm.Cond.instanceMethod ({ cls := "SecretsWorthModel", name := "takesSigned", desc := "(I)I" } : Jvm.MethodName)) ∈ lw_all := lw_g (lw_at lw_m9 210 rfl) rfl
theorem q2262 : (Jvm.Cond.code ({ cls := "SecretsWorthModel", name := "takesSigned", desc := "(I)I" } : Jvm.MethodName) prog_11_method_79_code (4 : Nat) (Option.some Jvm.ClassFile.FieldType.int)) ∈ lw_all := lw_g (lw_at lw_m9 211 rfl) rfl
theorem q2263 : (Jvm.Cond.methodLink "SecretsWorthModel" (373 : Nat) ({ cls := "SecretsWorthModel", name := "isSign", desc := "(I)Z" } : Jvm.MethodName)) ∈ lw_all := lw_g (lw_at lw_m9 212 rfl) rfl
theorem q2264 : (Jvm.Cond.privateMethod ({ cls := "SecretsWorthModel", name := "isSign", desc := "(I)Z" } : Jvm.MethodName)) ∈ lw_tbl := lw_at lw_m9 213 rfl
theorem q2265 : (Jvm.Cond.instanceMethod ({ cls := "SecretsWorthModel", name := "isSign", desc := "(I)Z" } : Jvm.MethodName)) ∈ lw_all := lw_g (lw_at lw_m9 214 rfl) rfl
theorem q2266 : (Jvm.Cond.code ({ cls := "SecretsWorthModel", name := "isSign", desc := "(I)Z" } : Jvm.MethodName) prog_11_method_77_code (2 : Nat) (Option.some Jvm.ClassFile.FieldType.boolean)) ∈ lw_all := lw_g (lw_at lw_m9 215 rfl) rfl
theorem q2267 : (Jvm.Cond.stringRef "SecretsWorthModel" (396 : Nat) "prior") ∈ lw_tbl := lw_at lw_m9 216 rfl
theorem q2268 : (Jvm.Cond.stringRef "SecretsWorthModel" (398 : Nat) "target") ∈ lw_tbl := lw_at lw_m9 217 rfl
theorem q2269 : (Jvm.Cond.stringRef "SecretsWorthModel" (400 : Nat) "tree") ∈ lw_tbl := lw_at lw_m9 218 rfl
theorem q2270 : (Jvm.Cond.methodLink "SecretsWorthModel" (402 : Nat) ({ cls := "SecretsWorthModel", name := "node", desc := "(II)I" } : Jvm.MethodName)) ∈ lw_all := lw_g (lw_at lw_m9 219 rfl) rfl
theorem q2271 : (Jvm.Cond.privateMethod ({ cls := "SecretsWorthModel", name := "node", desc := "(II)I" } : Jvm.MethodName)) ∈ lw_tbl := lw_at lw_m9 220 rfl
theorem q2272 : (Jvm.Cond.instanceMethod ({ cls := "SecretsWorthModel", name := "node", desc := "(II)I" } : Jvm.MethodName)) ∈ lw_all := lw_g (lw_at lw_m9 221 rfl) rfl
theorem q2273 : (Jvm.Cond.code ({ cls := "SecretsWorthModel", name := "node", desc := "(II)I" } : Jvm.MethodName) prog_11_method_81_code (5 : Nat) (Option.some Jvm.ClassFile.FieldType.int)) ∈ lw_all := lw_g (lw_at lw_m9 222 rfl) rfl
theorem q2274 : (Jvm.Cond.stringRef "SecretsWorthModel" (405 : Nat) "stay") ∈ lw_tbl := lw_at lw_m9 223 rfl
theorem q2275 : (Jvm.Cond.methodLink "SecretsWorthModel" (407 : Nat) ({ cls := "SecretsWorthModel", name := "under", desc := "(II)V" } : Jvm.MethodName)) ∈ lw_all := lw_g (lw_at lw_m9 224 rfl) rfl
theorem q2276 : (Jvm.Cond.privateMethod ({ cls := "SecretsWorthModel", name := "under", desc := "(II)V" } : Jvm.MethodName)) ∈ lw_tbl := lw_at lw_m9 225 rfl
theorem q2277 : (Jvm.Cond.instanceMethod ({ cls := "SecretsWorthModel", name := "under", desc := "(II)V" } : Jvm.MethodName)) ∈ lw_all := lw_g (lw_at lw_m9 226 rfl) rfl
theorem q2278 : (Jvm.Cond.code ({ cls := "SecretsWorthModel", name := "under", desc := "(II)V" } : Jvm.MethodName) prog_11_method_82_code (7 : Nat) (Option.none : Option Jvm.ClassFile.FieldType)) ∈ lw_all := lw_g (lw_at lw_m9 227 rfl) rfl
theorem q2279 : (Jvm.Cond.methodLink "SecretsWorthModel" (411 : Nat) ({ cls := "SecretsWorthModel", name := "isSplitting", desc := "(I[II)Z" } : Jvm.MethodName)) ∈ lw_all := lw_g (lw_at lw_m9 228 rfl) rfl
theorem q2280 : (Jvm.Cond.privateMethod ({ cls := "SecretsWorthModel", name := "isSplitting", desc := "(I[II)Z" } : Jvm.MethodName)) ∈ lw_tbl := lw_at lw_m9 229 rfl
theorem q2281 : (Jvm.Cond.instanceMethod ({ cls := "SecretsWorthModel", name := "isSplitting", desc := "(I[II)Z" } : Jvm.MethodName)) ∈ lw_all := lw_g (lw_at lw_m9 230 rfl) rfl
theorem q2282 : (Jvm.Cond.code ({ cls := "SecretsWorthModel", name := "isSplitting", desc := "(I[II)Z" } : Jvm.MethodName) prog_11_method_83_code (5 : Nat) (Option.some Jvm.ClassFile.FieldType.boolean)) ∈ lw_all := lw_g (lw_at lw_m9 231 rfl) rfl
theorem q2283 : (Jvm.Cond.methodLink "SecretsWorthLaw" (117 : Nat) ({ cls := "SecretsWorthModel", name := "tree", desc := "(I)I" } : Jvm.MethodName)) ∈ lw_all := lw_g (lw_at lw_m9 232 rfl) rfl
theorem q2284 : (Jvm.Cond.instanceMethod ({ cls := "SecretsWorthModel", name := "tree", desc := "(I)I" } : Jvm.MethodName)) ∈ lw_all := lw_g (lw_at lw_m9 233 rfl) rfl
theorem q2285 : (Jvm.Cond.selects "SecretsWorthModel" ({ cls := "SecretsWorthModel", name := "tree", desc := "(I)I" } : Jvm.MethodName) ({ cls := "SecretsWorthModel", name := "tree", desc := "(I)I" } : Jvm.MethodName)) ∈ lw_all := lw_g (lw_at lw_m9 234 rfl) rfl
theorem q2286 : (Jvm.Cond.code ({ cls := "SecretsWorthModel", name := "tree", desc := "(I)I" } : Jvm.MethodName) prog_11_method_89_code (5 : Nat) (Option.some Jvm.ClassFile.FieldType.int)) ∈ lw_all := lw_g (lw_at lw_m9 235 rfl) rfl
theorem q2287 : (Jvm.Cond.methodLink "SecretsWorthModel" (428 : Nat) ({ cls := "SecretsWorthModel", name := "underMany", desc := "(I)I" } : Jvm.MethodName)) ∈ lw_all := lw_g (lw_at lw_m9 236 rfl) rfl
theorem q2288 : (Jvm.Cond.privateMethod ({ cls := "SecretsWorthModel", name := "underMany", desc := "(I)I" } : Jvm.MethodName)) ∈ lw_tbl := lw_at lw_m9 237 rfl
theorem q2289 : (Jvm.Cond.instanceMethod ({ cls := "SecretsWorthModel", name := "underMany", desc := "(I)I" } : Jvm.MethodName)) ∈ lw_all := lw_g (lw_at lw_m9 238 rfl) rfl
theorem q2290 : (Jvm.Cond.code ({ cls := "SecretsWorthModel", name := "underMany", desc := "(I)I" } : Jvm.MethodName) prog_11_method_88_code (4 : Nat) (Option.some Jvm.ClassFile.FieldType.int)) ∈ lw_all := lw_g (lw_at lw_m9 239 rfl) rfl
theorem q2291 : (Jvm.Cond.methodLink "SecretsWorthModel" (425 : Nat) ({ cls := "SecretsWorthModel", name := "isUnder", desc := "(II)Z" } : Jvm.MethodName)) ∈ lw_all := lw_g (lw_at lw_m10 0 rfl) rfl
theorem q2292 : (Jvm.Cond.privateMethod ({ cls := "SecretsWorthModel", name := "isUnder", desc := "(II)Z" } : Jvm.MethodName)) ∈ lw_tbl := lw_at lw_m10 1 rfl
theorem q2293 : (Jvm.Cond.instanceMethod ({ cls := "SecretsWorthModel", name := "isUnder", desc := "(II)Z" } : Jvm.MethodName)) ∈ lw_all := lw_g (lw_at lw_m10 2 rfl) rfl
theorem q2294 : (Jvm.Cond.code ({ cls := "SecretsWorthModel", name := "isUnder", desc := "(II)Z" } : Jvm.MethodName) prog_11_method_87_code (4 : Nat) (Option.some Jvm.ClassFile.FieldType.boolean)) ∈ lw_all := lw_g (lw_at lw_m10 3 rfl) rfl
theorem q2295 : (Jvm.Cond.methodLink "SecretsWorthModel" (422 : Nat) ({ cls := "SecretsWorthModel", name := "depthOf", desc := "(I)I" } : Jvm.MethodName)) ∈ lw_all := lw_g (lw_at lw_m10 4 rfl) rfl
theorem q2296 : (Jvm.Cond.privateMethod ({ cls := "SecretsWorthModel", name := "depthOf", desc := "(I)I" } : Jvm.MethodName)) ∈ lw_tbl := lw_at lw_m10 5 rfl
theorem q2297 : (Jvm.Cond.instanceMethod ({ cls := "SecretsWorthModel", name := "depthOf", desc := "(I)I" } : Jvm.MethodName)) ∈ lw_all := lw_g (lw_at lw_m10 6 rfl) rfl
theorem q2298 : (Jvm.Cond.code ({ cls := "SecretsWorthModel", name := "depthOf", desc := "(I)I" } : Jvm.MethodName) prog_11_method_86_code (2 : Nat) (Option.some Jvm.ClassFile.FieldType.int)) ∈ lw_all := lw_g (lw_at lw_m10 7 rfl) rfl
theorem q2299 : (Jvm.Cond.methodLink "SecretsWorthLaw" (121 : Nat) ({ cls := "SecretsWorthModel", name := "worth", desc := "(II)J" } : Jvm.MethodName)) ∈ lw_all := lw_g (lw_at lw_m10 8 rfl) rfl
theorem q2300 : (Jvm.Cond.instanceMethod ({ cls := "SecretsWorthModel", name := "worth", desc := "(II)J" } : Jvm.MethodName)) ∈ lw_all := lw_g (lw_at lw_m10 9 rfl) rfl
theorem q2301 : (Jvm.Cond.selects "SecretsWorthModel" ({ cls := "SecretsWorthModel", name := "worth", desc := "(II)J" } : Jvm.MethodName) ({ cls := "SecretsWorthModel", name := "worth", desc := "(II)J" } : Jvm.MethodName)) ∈ lw_all := lw_g (lw_at lw_m10 10 rfl) rfl
theorem q2302 : (Jvm.Cond.code ({ cls := "SecretsWorthModel", name := "worth", desc := "(II)J" } : Jvm.MethodName) prog_11_method_92_code (7 : Nat) (Option.some Jvm.ClassFile.FieldType.long)) ∈ lw_all := lw_g (lw_at lw_m10 11 rfl) rfl
theorem q2303 : (Jvm.Cond.methodLink "SecretsWorthModel" (431 : Nat) ({ cls := "SecretsWorthModel", name := "worthOf", desc := "(IZ)V" } : Jvm.MethodName)) ∈ lw_all := lw_g (lw_at lw_m10 12 rfl) rfl
theorem q2304 : (Jvm.Cond.privateMethod ({ cls := "SecretsWorthModel", name := "worthOf", desc := "(IZ)V" } : Jvm.MethodName)) ∈ lw_tbl := lw_at lw_m10 13 rfl
theorem q2305 : (Jvm.Cond.instanceMethod ({ cls := "SecretsWorthModel", name := "worthOf", desc := "(IZ)V" } : Jvm.MethodName)) ∈ lw_all := lw_g (lw_at lw_m10 14 rfl) rfl
theorem q2306 : (Jvm.Cond.code ({ cls := "SecretsWorthModel", name := "worthOf", desc := "(IZ)V" } : Jvm.MethodName) prog_11_method_90_code (15 : Nat) (Option.none : Option Jvm.ClassFile.FieldType)) ∈ lw_all := lw_g (lw_at lw_m10 15 rfl) rfl
theorem q2307 : (Jvm.Cond.methodLink "SecretsWorthModel" (435 : Nat) ({ cls := "SecretsWorthModel", name := "weighsUnder", desc := "(II)V" } : Jvm.MethodName)) ∈ lw_all := lw_g (lw_at lw_m10 16 rfl) rfl
theorem q2308 : (Jvm.Cond.privateMethod ({ cls := "SecretsWorthModel", name := "weighsUnder", desc := "(II)V" } : Jvm.MethodName)) ∈ lw_tbl := lw_at lw_m10 17 rfl
theorem q2309 : (Jvm.Cond.instanceMethod ({ cls := "SecretsWorthModel", name := "weighsUnder", desc := "(II)V" } : Jvm.MethodName)) ∈ lw_all := lw_g (lw_at lw_m10 18 rfl) rfl
theorem q2310 : (Jvm.Cond.code ({ cls := "SecretsWorthModel", name := "weighsUnder", desc := "(II)V" } : Jvm.MethodName) prog_11_method_91_code (4 : Nat) (Option.none : Option Jvm.ClassFile.FieldType)) ∈ lw_all := lw_g (lw_at lw_m10 19 rfl) rfl
theorem q2311 : (Jvm.Cond.methodLink "SecretsWorthLaw" (125 : Nat) ({ cls := "SecretsWorthModel", name := "line", desc := "(II)I" } : Jvm.MethodName)) ∈ lw_all := lw_g (lw_at lw_m10 20 rfl) rfl
theorem q2312 : (Jvm.Cond.instanceMethod ({ cls := "SecretsWorthModel", name := "line", desc := "(II)I" } : Jvm.MethodName)) ∈ lw_all := lw_g (lw_at lw_m10 21 rfl) rfl
theorem q2313 : (Jvm.Cond.selects "SecretsWorthModel" ({ cls := "SecretsWorthModel", name := "line", desc := "(II)I" } : Jvm.MethodName) ({ cls := "SecretsWorthModel", name := "line", desc := "(II)I" } : Jvm.MethodName)) ∈ lw_all := lw_g (lw_at lw_m10 22 rfl) rfl
theorem q2314 : (Jvm.Cond.code ({ cls := "SecretsWorthModel", name := "line", desc := "(II)I" } : Jvm.MethodName) prog_11_method_100_code (5 : Nat) (Option.some Jvm.ClassFile.FieldType.int)) ∈ lw_all := lw_g (lw_at lw_m10 23 rfl) rfl
theorem q2315 : (Jvm.Cond.methodLink "SecretsWorthModel" (461 : Nat) ({ cls := "SecretsWorthModel", name := "writesPoint", desc := "(I)V" } : Jvm.MethodName)) ∈ lw_all := lw_g (lw_at lw_m10 24 rfl) rfl
theorem q2316 : (Jvm.Cond.privateMethod ({ cls := "SecretsWorthModel", name := "writesPoint", desc := "(I)V" } : Jvm.MethodName)) ∈ lw_tbl := lw_at lw_m10 25 rfl
theorem q2317 : (Jvm.Cond.instanceMethod ({ cls := "SecretsWorthModel", name := "writesPoint", desc := "(I)V" } : Jvm.MethodName)) ∈ lw_all := lw_g (lw_at lw_m10 26 rfl) rfl
theorem q2318 : (Jvm.Cond.code ({ cls := "SecretsWorthModel", name := "writesPoint", desc := "(I)V" } : Jvm.MethodName) prog_11_method_96_code (3 : Nat) (Option.none : Option Jvm.ClassFile.FieldType)) ∈ lw_all := lw_g (lw_at lw_m10 27 rfl) rfl
theorem q2319 : (Jvm.Cond.methodLink "SecretsWorthModel" (441 : Nat) ({ cls := "SecretsWorthModel", name := "puts", desc := "(I)V" } : Jvm.MethodName)) ∈ lw_all := lw_g (lw_at lw_m10 28 rfl) rfl
theorem q2320 : (Jvm.Cond.privateMethod ({ cls := "SecretsWorthModel", name := "puts", desc := "(I)V" } : Jvm.MethodName)) ∈ lw_tbl := lw_at lw_m10 29 rfl
theorem q2321 : (Jvm.Cond.instanceMethod ({ cls := "SecretsWorthModel", name := "puts", desc := "(I)V" } : Jvm.MethodName)) ∈ lw_all := lw_g (lw_at lw_m10 30 rfl) rfl
theorem q2322 : (Jvm.Cond.code ({ cls := "SecretsWorthModel", name := "puts", desc := "(I)V" } : Jvm.MethodName) prog_11_method_93_code (2 : Nat) (Option.none : Option Jvm.ClassFile.FieldType)) ∈ lw_all := lw_g (lw_at lw_m10 31 rfl) rfl
theorem q2323 : (Jvm.Cond.methodLink "SecretsWorthModel" (450 : Nat) ({ cls := "SecretsWorthModel", name := "writes", desc := "(J)V" } : Jvm.MethodName)) ∈ lw_all := lw_g (lw_at lw_m10 32 rfl) rfl
theorem q2324 : (Jvm.Cond.privateMethod ({ cls := "SecretsWorthModel", name := "writes", desc := "(J)V" } : Jvm.MethodName)) ∈ lw_tbl := lw_at lw_m10 33 rfl
theorem q2325 : (Jvm.Cond.instanceMethod ({ cls := "SecretsWorthModel", name := "writes", desc := "(J)V" } : Jvm.MethodName)) ∈ lw_all := lw_g (lw_at lw_m10 34 rfl) rfl
theorem q2326 : (Jvm.Cond.code ({ cls := "SecretsWorthModel", name := "writes", desc := "(J)V" } : Jvm.MethodName) prog_11_method_94_code (7 : Nat) (Option.none : Option Jvm.ClassFile.FieldType)) ∈ lw_all := lw_g (lw_at lw_m10 35 rfl) rfl
theorem q2327 : (Jvm.Cond.constantLong "SecretsWorthModel" (444 : Nat) (9 : Int64)) ∈ lw_all := lw_g (lw_at lw_m10 36 rfl) rfl
theorem q2328 : (Jvm.Cond.constantLong "SecretsWorthModel" (446 : Nat) (10 : Int64)) ∈ lw_all := lw_g (lw_at lw_m10 37 rfl) rfl
theorem q2329 : (Jvm.Cond.constantLong "SecretsWorthModel" (448 : Nat) (48 : Int64)) ∈ lw_all := lw_g (lw_at lw_m10 38 rfl) rfl
theorem q2330 : (Jvm.Cond.methodLink "SecretsWorthModel" (453 : Nat) ({ cls := "SecretsWorthModel", name := "writesFraction", desc := "()V" } : Jvm.MethodName)) ∈ lw_all := lw_g (lw_at lw_m10 39 rfl) rfl
theorem q2331 : (Jvm.Cond.privateMethod ({ cls := "SecretsWorthModel", name := "writesFraction", desc := "()V" } : Jvm.MethodName)) ∈ lw_tbl := lw_at lw_m10 40 rfl
theorem q2332 : (Jvm.Cond.instanceMethod ({ cls := "SecretsWorthModel", name := "writesFraction", desc := "()V" } : Jvm.MethodName)) ∈ lw_all := lw_g (lw_at lw_m10 41 rfl) rfl
theorem q2333 : (Jvm.Cond.code ({ cls := "SecretsWorthModel", name := "writesFraction", desc := "()V" } : Jvm.MethodName) prog_11_method_95_code (3 : Nat) (Option.none : Option Jvm.ClassFile.FieldType)) ∈ lw_all := lw_g (lw_at lw_m10 42 rfl) rfl
theorem q2334 : (Jvm.Cond.methodLink "SecretsWorthModel" (464 : Nat) ({ cls := "SecretsWorthModel", name := "writesGame", desc := "(I)V" } : Jvm.MethodName)) ∈ lw_all := lw_g (lw_at lw_m10 43 rfl) rfl
theorem q2335 : (Jvm.Cond.privateMethod ({ cls := "SecretsWorthModel", name := "writesGame", desc := "(I)V" } : Jvm.MethodName)) ∈ lw_tbl := lw_at lw_m10 44 rfl
theorem q2336 : (Jvm.Cond.instanceMethod ({ cls := "SecretsWorthModel", name := "writesGame", desc := "(I)V" } : Jvm.MethodName)) ∈ lw_all := lw_g (lw_at lw_m10 45 rfl) rfl
theorem q2337 : (Jvm.Cond.code ({ cls := "SecretsWorthModel", name := "writesGame", desc := "(I)V" } : Jvm.MethodName) prog_11_method_97_code (4 : Nat) (Option.none : Option Jvm.ClassFile.FieldType)) ∈ lw_all := lw_g (lw_at lw_m10 46 rfl) rfl
theorem q2338 : (Jvm.Cond.methodLink "SecretsWorthModel" (458 : Nat) ({ cls := "SecretsWorthModel", name := "writesNode", desc := "(I)V" } : Jvm.MethodName)) ∈ lw_all := lw_g (lw_at lw_m10 47 rfl) rfl
theorem q2339 : (Jvm.Cond.privateMethod ({ cls := "SecretsWorthModel", name := "writesNode", desc := "(I)V" } : Jvm.MethodName)) ∈ lw_tbl := lw_at lw_m10 48 rfl
theorem q2340 : (Jvm.Cond.instanceMethod ({ cls := "SecretsWorthModel", name := "writesNode", desc := "(I)V" } : Jvm.MethodName)) ∈ lw_all := lw_g (lw_at lw_m10 49 rfl) rfl
theorem q2341 : (Jvm.Cond.code ({ cls := "SecretsWorthModel", name := "writesNode", desc := "(I)V" } : Jvm.MethodName) prog_11_method_98_code (5 : Nat) (Option.none : Option Jvm.ClassFile.FieldType)) ∈ lw_all := lw_g (lw_at lw_m10 50 rfl) rfl
theorem q2342 : (Jvm.Cond.stringRef "SecretsWorthModel" (456 : Nat) " stay ") ∈ lw_tbl := lw_at lw_m10 51 rfl
theorem q2343 : (Jvm.Cond.methodLink "SecretsWorthModel" (467 : Nat) ({ cls := "SecretsWorthModel", name := "writesBest", desc := "(I)V" } : Jvm.MethodName)) ∈ lw_all := lw_g (lw_at lw_m10 52 rfl) rfl
theorem q2344 : (Jvm.Cond.privateMethod ({ cls := "SecretsWorthModel", name := "writesBest", desc := "(I)V" } : Jvm.MethodName)) ∈ lw_tbl := lw_at lw_m10 53 rfl
theorem q2345 : (Jvm.Cond.instanceMethod ({ cls := "SecretsWorthModel", name := "writesBest", desc := "(I)V" } : Jvm.MethodName)) ∈ lw_all := lw_g (lw_at lw_m10 54 rfl) rfl
theorem q2346 : (Jvm.Cond.code ({ cls := "SecretsWorthModel", name := "writesBest", desc := "(I)V" } : Jvm.MethodName) prog_11_method_99_code (3 : Nat) (Option.none : Option Jvm.ClassFile.FieldType)) ∈ lw_all := lw_g (lw_at lw_m10 55 rfl) rfl
theorem q2347 : (Jvm.Cond.methodLink "SecretsWorthLaw" (129 : Nat) ({ cls := "SecretsWorthModel", name := "letter", desc := "(I)I" } : Jvm.MethodName)) ∈ lw_all := lw_g (lw_at lw_m10 56 rfl) rfl
theorem q2348 : (Jvm.Cond.instanceMethod ({ cls := "SecretsWorthModel", name := "letter", desc := "(I)I" } : Jvm.MethodName)) ∈ lw_all := lw_g (lw_at lw_m10 57 rfl) rfl
theorem q2349 : (Jvm.Cond.selects "SecretsWorthModel" ({ cls := "SecretsWorthModel", name := "letter", desc := "(I)I" } : Jvm.MethodName) ({ cls := "SecretsWorthModel", name := "letter", desc := "(I)I" } : Jvm.MethodName)) ∈ lw_all := lw_g (lw_at lw_m10 58 rfl) rfl
theorem q2350 : (Jvm.Cond.code ({ cls := "SecretsWorthModel", name := "letter", desc := "(I)I" } : Jvm.MethodName) prog_11_method_101_code (2 : Nat) (Option.some Jvm.ClassFile.FieldType.int)) ∈ lw_all := lw_g (lw_at lw_m10 59 rfl) rfl
theorem q2351 : (Jvm.Cond.methodLink "SecretsWorthLaw" (133 : Nat) ({ cls := "SecretsWorthModel", name := "letters", desc := "(I)I" } : Jvm.MethodName)) ∈ lw_all := lw_g (lw_at lw_m10 60 rfl) rfl
theorem q2352 : (Jvm.Cond.instanceMethod ({ cls := "SecretsWorthModel", name := "letters", desc := "(I)I" } : Jvm.MethodName)) ∈ lw_all := lw_g (lw_at lw_m10 61 rfl) rfl
theorem q2353 : (Jvm.Cond.selects "SecretsWorthModel" ({ cls := "SecretsWorthModel", name := "letters", desc := "(I)I" } : Jvm.MethodName) ({ cls := "SecretsWorthModel", name := "letters", desc := "(I)I" } : Jvm.MethodName)) ∈ lw_all := lw_g (lw_at lw_m10 62 rfl) rfl
theorem q2354 : (Jvm.Cond.code ({ cls := "SecretsWorthModel", name := "letters", desc := "(I)I" } : Jvm.MethodName) prog_11_method_102_code (4 : Nat) (Option.some Jvm.ClassFile.FieldType.int)) ∈ lw_all := lw_g (lw_at lw_m10 63 rfl) rfl
theorem q2355 : (Jvm.Cond.methodLink "SecretsWorthLaw" (137 : Nat) ({ cls := "SecretsWorthModel", name := "begin", desc := "()I" } : Jvm.MethodName)) ∈ lw_all := lw_g (lw_at lw_m10 64 rfl) rfl
theorem q2356 : (Jvm.Cond.instanceMethod ({ cls := "SecretsWorthModel", name := "begin", desc := "()I" } : Jvm.MethodName)) ∈ lw_all := lw_g (lw_at lw_m10 65 rfl) rfl
theorem q2357 : (Jvm.Cond.selects "SecretsWorthModel" ({ cls := "SecretsWorthModel", name := "begin", desc := "()I" } : Jvm.MethodName) ({ cls := "SecretsWorthModel", name := "begin", desc := "()I" } : Jvm.MethodName)) ∈ lw_all := lw_g (lw_at lw_m10 66 rfl) rfl
theorem q2358 : (Jvm.Cond.code ({ cls := "SecretsWorthModel", name := "begin", desc := "()I" } : Jvm.MethodName) prog_11_method_103_code (2 : Nat) (Option.some Jvm.ClassFile.FieldType.int)) ∈ lw_all := lw_g (lw_at lw_m10 67 rfl) rfl
theorem q2359 : (Jvm.Cond.methodLink "SecretsWorthLaw" (141 : Nat) ({ cls := "SecretsWorthModel", name := "round", desc := "(I)I" } : Jvm.MethodName)) ∈ lw_all := lw_g (lw_at lw_m10 68 rfl) rfl
theorem q2360 : (Jvm.Cond.instanceMethod ({ cls := "SecretsWorthModel", name := "round", desc := "(I)I" } : Jvm.MethodName)) ∈ lw_all := lw_g (lw_at lw_m10 69 rfl) rfl
theorem q2361 : (Jvm.Cond.selects "SecretsWorthModel" ({ cls := "SecretsWorthModel", name := "round", desc := "(I)I" } : Jvm.MethodName) ({ cls := "SecretsWorthModel", name := "round", desc := "(I)I" } : Jvm.MethodName)) ∈ lw_all := lw_g (lw_at lw_m10 70 rfl) rfl
theorem q2362 : (Jvm.Cond.code ({ cls := "SecretsWorthModel", name := "round", desc := "(I)I" } : Jvm.MethodName) prog_11_method_107_code (5 : Nat) (Option.some Jvm.ClassFile.FieldType.int)) ∈ lw_all := lw_g (lw_at lw_m10 71 rfl) rfl
theorem q2363 : (Jvm.Cond.methodLink "SecretsWorthModel" (485 : Nat) ({ cls := "SecretsWorthModel", name := "answer", desc := "()I" } : Jvm.MethodName)) ∈ lw_all := lw_g (lw_at lw_m10 72 rfl) rfl
theorem q2364 : (Jvm.Cond.privateMethod ({ cls := "SecretsWorthModel", name := "answer", desc := "()I" } : Jvm.MethodName)) ∈ lw_tbl := lw_at lw_m10 73 rfl
theorem q2365 : (Jvm.Cond.instanceMethod ({ cls := "SecretsWorthModel", name := "answer", desc := "()I" } : Jvm.MethodName)) ∈ lw_all := lw_g (lw_at lw_m10 74 rfl) rfl
theorem q2366 : (Jvm.Cond.code ({ cls := "SecretsWorthModel", name := "answer", desc := "()I" } : Jvm.MethodName) prog_11_method_106_code (6 : Nat) (Option.some Jvm.ClassFile.FieldType.int)) ∈ lw_all := lw_g (lw_at lw_m10 75 rfl) rfl
theorem q2367 : (Jvm.Cond.methodLink "SecretsWorthModel" (479 : Nat) ({ cls := "SecretsWorthModel", name := "aboveAll", desc := "()I" } : Jvm.MethodName)) ∈ lw_all := lw_g (lw_at lw_m10 76 rfl) rfl
theorem q2368 : (Jvm.Cond.privateMethod ({ cls := "SecretsWorthModel", name := "aboveAll", desc := "()I" } : Jvm.MethodName)) ∈ lw_tbl := lw_at lw_m10 77 rfl
theorem q2369 : (Jvm.Cond.instanceMethod ({ cls := "SecretsWorthModel", name := "aboveAll", desc := "()I" } : Jvm.MethodName)) ∈ lw_all := lw_g (lw_at lw_m10 78 rfl) rfl
theorem q2370 : (Jvm.Cond.code ({ cls := "SecretsWorthModel", name := "aboveAll", desc := "()I" } : Jvm.MethodName) prog_11_method_105_code (3 : Nat) (Option.some Jvm.ClassFile.FieldType.int)) ∈ lw_all := lw_g (lw_at lw_m10 79 rfl) rfl
theorem q2371 : (Jvm.Cond.methodLink "SecretsWorthModel" (476 : Nat) ({ cls := "SecretsWorthModel", name := "above", desc := "(I)I" } : Jvm.MethodName)) ∈ lw_all := lw_g (lw_at lw_m10 80 rfl) rfl
theorem q2372 : (Jvm.Cond.privateMethod ({ cls := "SecretsWorthModel", name := "above", desc := "(I)I" } : Jvm.MethodName)) ∈ lw_tbl := lw_at lw_m10 81 rfl
theorem q2373 : (Jvm.Cond.instanceMethod ({ cls := "SecretsWorthModel", name := "above", desc := "(I)I" } : Jvm.MethodName)) ∈ lw_all := lw_g (lw_at lw_m10 82 rfl) rfl
theorem q2374 : (Jvm.Cond.code ({ cls := "SecretsWorthModel", name := "above", desc := "(I)I" } : Jvm.MethodName) prog_11_method_104_code (3 : Nat) (Option.some Jvm.ClassFile.FieldType.int)) ∈ lw_all := lw_g (lw_at lw_m10 83 rfl) rfl
theorem q2375 : (Jvm.Cond.constant "SecretsWorthModel" (482 : Nat) (1103515245 : Int32)) ∈ lw_all := lw_g (lw_at lw_m10 84 rfl) rfl
theorem q2376 : (Jvm.Cond.constantLong "SecretsWorthModel" (483 : Nat) (1000 : Int64)) ∈ lw_all := lw_g (lw_at lw_m10 85 rfl) rfl
theorem q2377 : (Jvm.Cond.methodLink "SecretsWorthLaw" (145 : Nat) ({ cls := "SecretsWorthModel", name := "back", desc := "()I" } : Jvm.MethodName)) ∈ lw_all := lw_g (lw_at lw_m10 86 rfl) rfl
theorem q2378 : (Jvm.Cond.instanceMethod ({ cls := "SecretsWorthModel", name := "back", desc := "()I" } : Jvm.MethodName)) ∈ lw_all := lw_g (lw_at lw_m10 87 rfl) rfl
theorem q2379 : (Jvm.Cond.selects "SecretsWorthModel" ({ cls := "SecretsWorthModel", name := "back", desc := "()I" } : Jvm.MethodName) ({ cls := "SecretsWorthModel", name := "back", desc := "()I" } : Jvm.MethodName)) ∈ lw_all := lw_g (lw_at lw_m10 88 rfl) rfl
theorem q2380 : (Jvm.Cond.code ({ cls := "SecretsWorthModel", name := "back", desc := "()I" } : Jvm.MethodName) prog_11_method_108_code (3 : Nat) (Option.some Jvm.ClassFile.FieldType.int)) ∈ lw_all := lw_g (lw_at lw_m10 89 rfl) rfl
theorem q2381 : (Jvm.Cond.methodLink "SecretsWorthLaw" (149 : Nat) ({ cls := "SecretsWorthModel", name := "played", desc := "(I)I" } : Jvm.MethodName)) ∈ lw_all := lw_g (lw_at lw_m10 90 rfl) rfl
theorem q2382 : (Jvm.Cond.instanceMethod ({ cls := "SecretsWorthModel", name := "played", desc := "(I)I" } : Jvm.MethodName)) ∈ lw_all := lw_g (lw_at lw_m10 91 rfl) rfl
theorem q2383 : (Jvm.Cond.selects "SecretsWorthModel" ({ cls := "SecretsWorthModel", name := "played", desc := "(I)I" } : Jvm.MethodName) ({ cls := "SecretsWorthModel", name := "played", desc := "(I)I" } : Jvm.MethodName)) ∈ lw_all := lw_g (lw_at lw_m10 92 rfl) rfl
theorem q2384 : (Jvm.Cond.code ({ cls := "SecretsWorthModel", name := "played", desc := "(I)I" } : Jvm.MethodName) prog_11_method_109_code (2 : Nat) (Option.some Jvm.ClassFile.FieldType.int)) ∈ lw_all := lw_g (lw_at lw_m10 93 rfl) rfl
theorem q2385 : (Jvm.Cond.constantLong "SecretsWorthModel" (488 : Nat) (5 : Int64)) ∈ lw_all := lw_g (lw_at lw_m10 94 rfl) rfl
theorem q2386 : (Jvm.Cond.methodLink "SecretsWorthLaw" (153 : Nat) ({ cls := "SecretsWorthModel", name := "replay", desc := "(IIII)J" } : Jvm.MethodName)) ∈ lw_all := lw_g (lw_at lw_m10 95 rfl) rfl
theorem q2387 : (Jvm.Cond.instanceMethod ({ cls := "SecretsWorthModel", name := "replay", desc := "(IIII)J" } : Jvm.MethodName)) ∈ lw_all := lw_g (lw_at lw_m10 96 rfl) rfl
theorem q2388 : (Jvm.Cond.selects "SecretsWorthModel" ({ cls := "SecretsWorthModel", name := "replay", desc := "(IIII)J" } : Jvm.MethodName) ({ cls := "SecretsWorthModel", name := "replay", desc := "(IIII)J" } : Jvm.MethodName)) ∈ lw_all := lw_g (lw_at lw_m10 97 rfl) rfl
theorem q2389 : (Jvm.Cond.code ({ cls := "SecretsWorthModel", name := "replay", desc := "(IIII)J" } : Jvm.MethodName) prog_11_method_110_code (13 : Nat) (Option.some Jvm.ClassFile.FieldType.long)) ∈ lw_all := lw_g (lw_at lw_m10 98 rfl) rfl
theorem q2390 : (Jvm.Cond.methodLink "SecretsWorthLaw" (157 : Nat) ({ cls := "SecretsWorthModel", name := "sheet", desc := "(III)I" } : Jvm.MethodName)) ∈ lw_all := lw_g (lw_at lw_m10 99 rfl) rfl
theorem q2391 : (Jvm.Cond.instanceMethod ({ cls := "SecretsWorthModel", name := "sheet", desc := "(III)I" } : Jvm.MethodName)) ∈ lw_all := lw_g (lw_at lw_m10 100 rfl) rfl
theorem q2392 : (Jvm.Cond.selects "SecretsWorthModel" ({ cls := "SecretsWorthModel", name := "sheet", desc := "(III)I" } : Jvm.MethodName) ({ cls := "SecretsWorthModel", name := "sheet", desc := "(III)I" } : Jvm.MethodName)) ∈ lw_all := lw_g (lw_at lw_m10 101 rfl) rfl
theorem q2393 : (Jvm.Cond.code ({ cls := "SecretsWorthModel", name := "sheet", desc := "(III)I" } : Jvm.MethodName) prog_11_method_111_code (5 : Nat) (Option.some Jvm.ClassFile.FieldType.int)) ∈ lw_all := lw_g (lw_at lw_m10 102 rfl) rfl
theorem q2394 : (Jvm.Cond.methodLink "SecretsWorthLaw" (164 : Nat) ({ cls := "SecretsWorthModel", name := "put", desc := "(IIJ)I" } : Jvm.MethodName)) ∈ lw_all := lw_g (lw_at lw_m10 103 rfl) rfl
theorem q2395 : (Jvm.Cond.instanceMethod ({ cls := "SecretsWorthModel", name := "put", desc := "(IIJ)I" } : Jvm.MethodName)) ∈ lw_all := lw_g (lw_at lw_m10 104 rfl) rfl
theorem q2396 : (Jvm.Cond.selects "SecretsWorthModel" ({ cls := "SecretsWorthModel", name := "put", desc := "(IIJ)I" } : Jvm.MethodName) ({ cls := "SecretsWorthModel", name := "put", desc := "(IIJ)I" } : Jvm.MethodName)) ∈ lw_all := lw_g (lw_at lw_m10 105 rfl) rfl
theorem q2397 : (Jvm.Cond.code ({ cls := "SecretsWorthModel", name := "put", desc := "(IIJ)I" } : Jvm.MethodName) prog_11_method_113_code (5 : Nat) (Option.some Jvm.ClassFile.FieldType.int)) ∈ lw_all := lw_g (lw_at lw_m10 106 rfl) rfl
theorem q2398 : (Jvm.Cond.methodLink "SecretsWorthModel" (490 : Nat) ({ cls := "SecretsWorthModel", name := "isLost", desc := "(II)Z" } : Jvm.MethodName)) ∈ lw_all := lw_g (lw_at lw_m10 107 rfl) rfl
theorem q2399 : (Jvm.Cond.privateMethod ({ cls := "SecretsWorthModel", name := "isLost", desc := "(II)Z" } : Jvm.MethodName)) ∈ lw_tbl := lw_at lw_m10 108 rfl
theorem q2400 : (Jvm.Cond.instanceMethod ({ cls := "SecretsWorthModel", name := "isLost", desc := "(II)Z" } : Jvm.MethodName)) ∈ lw_all := lw_g (lw_at lw_m10 109 rfl) rfl
theorem q2401 : (Jvm.Cond.code ({ cls := "SecretsWorthModel", name := "isLost", desc := "(II)Z" } : Jvm.MethodName) prog_11_method_112_code (3 : Nat) (Option.some Jvm.ClassFile.FieldType.boolean)) ∈ lw_all := lw_g (lw_at lw_m10 110 rfl) rfl
theorem q2402 : (Jvm.Cond.methodLink "SecretsWorthLaw" (168 : Nat) ({ cls := "SecretsWorthModel", name := "number", desc := "(II)J" } : Jvm.MethodName)) ∈ lw_all := lw_g (lw_at lw_m10 111 rfl) rfl
theorem q2403 : (Jvm.Cond.instanceMethod ({ cls := "SecretsWorthModel", name := "number", desc := "(II)J" } : Jvm.MethodName)) ∈ lw_all := lw_g (lw_at lw_m10 112 rfl) rfl
theorem q2404 : (Jvm.Cond.selects "SecretsWorthModel" ({ cls := "SecretsWorthModel", name := "number", desc := "(II)J" } : Jvm.MethodName) ({ cls := "SecretsWorthModel", name := "number", desc := "(II)J" } : Jvm.MethodName)) ∈ lw_all := lw_g (lw_at lw_m10 113 rfl) rfl
theorem q2405 : (Jvm.Cond.code ({ cls := "SecretsWorthModel", name := "number", desc := "(II)J" } : Jvm.MethodName) prog_11_method_114_code (3 : Nat) (Option.some Jvm.ClassFile.FieldType.long)) ∈ lw_all := lw_g (lw_at lw_m10 114 rfl) rfl
theorem q2406 : (Jvm.Cond.methodLink "SecretsWorthLaw" (172 : Nat) ({ cls := "SecretsWorthModel", name := "seed", desc := "(I)I" } : Jvm.MethodName)) ∈ lw_all := lw_g (lw_at lw_m10 115 rfl) rfl
theorem q2407 : (Jvm.Cond.instanceMethod ({ cls := "SecretsWorthModel", name := "seed", desc := "(I)I" } : Jvm.MethodName)) ∈ lw_all := lw_g (lw_at lw_m10 116 rfl) rfl
theorem q2408 : (Jvm.Cond.selects "SecretsWorthModel" ({ cls := "SecretsWorthModel", name := "seed", desc := "(I)I" } : Jvm.MethodName) ({ cls := "SecretsWorthModel", name := "seed", desc := "(I)I" } : Jvm.MethodName)) ∈ lw_all := lw_g (lw_at lw_m10 117 rfl) rfl
theorem q2409 : (Jvm.Cond.code ({ cls := "SecretsWorthModel", name := "seed", desc := "(I)I" } : Jvm.MethodName) prog_11_method_115_code (3 : Nat) (Option.some Jvm.ClassFile.FieldType.int)) ∈ lw_all := lw_g (lw_at lw_m10 118 rfl) rfl
theorem q2410 : (Jvm.Cond.methodLink "SecretsWorthLaw" (176 : Nat) ({ cls := "SecretsWorthModel", name := "image", desc := "()I" } : Jvm.MethodName)) ∈ lw_all := lw_g (lw_at lw_m10 119 rfl) rfl
theorem q2411 : (Jvm.Cond.instanceMethod ({ cls := "SecretsWorthModel", name := "image", desc := "()I" } : Jvm.MethodName)) ∈ lw_all := lw_g (lw_at lw_m10 120 rfl) rfl
theorem q2412 : (Jvm.Cond.selects "SecretsWorthModel" ({ cls := "SecretsWorthModel", name := "image", desc := "()I" } : Jvm.MethodName) ({ cls := "SecretsWorthModel", name := "image", desc := "()I" } : Jvm.MethodName)) ∈ lw_all := lw_g (lw_at lw_m10 121 rfl) rfl
theorem q2413 : (Jvm.Cond.code ({ cls := "SecretsWorthModel", name := "image", desc := "()I" } : Jvm.MethodName) prog_11_method_116_code (1 : Nat) (Option.some Jvm.ClassFile.FieldType.int)) ∈ lw_all := lw_g (lw_at lw_m10 122 rfl) rfl
theorem q2414 : (Jvm.Cond.methodLink "SecretsWorthLaw" (180 : Nat) ({ cls := "SecretsWorthModel", name := "restore", desc := "()I" } : Jvm.MethodName)) ∈ lw_all := lw_g (lw_at lw_m10 123 rfl) rfl
theorem q2415 : (Jvm.Cond.instanceMethod ({ cls := "SecretsWorthModel", name := "restore", desc := "()I" } : Jvm.MethodName)) ∈ lw_all := lw_g (lw_at lw_m10 124 rfl) rfl
theorem q2416 : (Jvm.Cond.selects "SecretsWorthModel" ({ cls := "SecretsWorthModel", name := "restore", desc := "()I" } : Jvm.MethodName) ({ cls := "SecretsWorthModel", name := "restore", desc := "()I" } : Jvm.MethodName)) ∈ lw_all := lw_g (lw_at lw_m10 125 rfl) rfl
theorem q2417 : (Jvm.Cond.code ({ cls := "SecretsWorthModel", name := "restore", desc := "()I" } : Jvm.MethodName) prog_11_method_117_code (1 : Nat) (Option.some Jvm.ClassFile.FieldType.int)) ∈ lw_all := lw_g (lw_at lw_m10 126 rfl) rfl
theorem q2418 : (Jvm.Cond.methodLink "SecretsWorthLaw" (184 : Nat) ({ cls := "SecretsWorthModel", name := "count", desc := "(I)I" } : Jvm.MethodName)) ∈ lw_all := lw_g (lw_at lw_m10 127 rfl) rfl
theorem q2419 : (Jvm.Cond.instanceMethod ({ cls := "SecretsWorthModel", name := "count", desc := "(I)I" } : Jvm.MethodName)) ∈ lw_all := lw_g (lw_at lw_m10 128 rfl) rfl
theorem q2420 : (Jvm.Cond.selects "SecretsWorthModel" ({ cls := "SecretsWorthModel", name := "count", desc := "(I)I" } : Jvm.MethodName) ({ cls := "SecretsWorthModel", name := "count", desc := "(I)I" } : Jvm.MethodName)) ∈ lw_all := lw_g (lw_at lw_m10 129 rfl) rfl
theorem q2421 : (Jvm.Cond.code ({ cls := "SecretsWorthModel", name := "count", desc := "(I)I" } : Jvm.MethodName) prog_11_method_118_code (2 : Nat) (Option.some Jvm.ClassFile.FieldType.int)) ∈ lw_all := lw_g (lw_at lw_m10 130 rfl) rfl
theorem q2422 : (Jvm.Cond.methodLink "SecretsWorthLaw" (188 : Nat) ({ cls := "SecretsWorthModel", name := "told", desc := "(I)I" } : Jvm.MethodName)) ∈ lw_all := lw_g (lw_at lw_m10 131 rfl) rfl
theorem q2423 : (Jvm.Cond.instanceMethod ({ cls := "SecretsWorthModel", name := "told", desc := "(I)I" } : Jvm.MethodName)) ∈ lw_all := lw_g (lw_at lw_m10 132 rfl) rfl
theorem q2424 : (Jvm.Cond.selects "SecretsWorthModel" ({ cls := "SecretsWorthModel", name := "told", desc := "(I)I" } : Jvm.MethodName) ({ cls := "SecretsWorthModel", name := "told", desc := "(I)I" } : Jvm.MethodName)) ∈ lw_all := lw_g (lw_at lw_m10 133 rfl) rfl
theorem q2425 : (Jvm.Cond.code ({ cls := "SecretsWorthModel", name := "told", desc := "(I)I" } : Jvm.MethodName) prog_11_method_119_code (2 : Nat) (Option.some Jvm.ClassFile.FieldType.int)) ∈ lw_all := lw_g (lw_at lw_m10 134 rfl) rfl
theorem q2426 : (Jvm.Cond.constantLong "SecretsWorthModel" (496 : Nat) (8 : Int64)) ∈ lw_all := lw_g (lw_at lw_m10 135 rfl) rfl
theorem q2427 : (Jvm.Cond.constantLong "SecretsWorthLaw" (158 : Nat) (4294967295 : Int64)) ∈ lw_all := lw_g (lw_at lw_m10 136 rfl) rfl
theorem q2428 : (Jvm.Cond.sameMethod "java/lang/Throwable" "java/lang/Throwable" "fillInStackTrace" "(I)Ljava/lang/Throwable;") ∈ lw_all := lw_g (lw_at lw_m10 137 rfl) rfl
theorem q2429 : (Jvm.Cond.sameMethod "java/lang/AbstractStringBuilder" "java/lang/AbstractStringBuilder" "append" "(C)Ljava/lang/AbstractStringBuilder;") ∈ lw_all := lw_g (lw_at lw_m10 138 rfl) rfl
theorem q2430 : (Jvm.Cond.sameMethod "java/lang/AbstractStringBuilder" "java/lang/AbstractStringBuilder" "ensureCapacityInternal" "(I)V") ∈ lw_all := lw_g (lw_at lw_m10 139 rfl) rfl
theorem q2431 : (Jvm.Cond.sameMethod "java/lang/AbstractStringBuilder" "java/lang/AbstractStringBuilder" "newCapacity" "(I)I") ∈ lw_all := lw_g (lw_at lw_m10 140 rfl) rfl
theorem q2432 : (Jvm.Cond.sameMethod "java/lang/AbstractStringBuilder" "java/lang/AbstractStringBuilder" "inflate" "()V") ∈ lw_all := lw_g (lw_at lw_m10 141 rfl) rfl
theorem q2433 : (Jvm.Cond.sameMethod "java/lang/AbstractStringBuilder" "java/lang/AbstractStringBuilder" "append" "(Ljava/lang/String;)Ljava/lang/AbstractStringBuilder;") ∈ lw_all := lw_g (lw_at lw_m10 142 rfl) rfl
theorem q2434 : (Jvm.Cond.sameMethod "java/lang/AbstractStringBuilder" "java/lang/AbstractStringBuilder" "appendNull" "()Ljava/lang/AbstractStringBuilder;") ∈ lw_all := lw_g (lw_at lw_m10 143 rfl) rfl
theorem q2435 : (Jvm.Cond.sameMethod "java/lang/AbstractStringBuilder" "java/lang/AbstractStringBuilder" "putStringAt" "(ILjava/lang/String;)V") ∈ lw_all := lw_g (lw_at lw_m10 144 rfl) rfl
theorem q2436 : (Jvm.Cond.sameMethod "java/lang/AbstractStringBuilder" "java/lang/AbstractStringBuilder" "inflateIfNeededFor" "(Ljava/lang/String;)V") ∈ lw_all := lw_g (lw_at lw_m10 145 rfl) rfl
theorem q2437 : (Jvm.Cond.sameMethod "java/lang/AbstractStringBuilder" "java/lang/AbstractStringBuilder" "append" "(I)Ljava/lang/AbstractStringBuilder;") ∈ lw_all := lw_g (lw_at lw_m10 146 rfl) rfl
theorem q2438 : (Jvm.Cond.sameMethod "java/lang/AbstractStringBuilder" "java/lang/AbstractStringBuilder" "append" "(J)Ljava/lang/AbstractStringBuilder;") ∈ lw_all := lw_g (lw_at lw_m10 147 rfl) rfl
theorem q2439 : (Jvm.Cond.selects "SecretsWorth$Node" ({ cls := "SecretsWorth$Node", name := "told", desc := "()Ljava/lang/String;" } : Jvm.MethodName) ({ cls := "SecretsWorth$Node", name := "told", desc := "()Ljava/lang/String;" } : Jvm.MethodName)) ∈ lw_all := lw_g (lw_at lw_m10 148 rfl) rfl
theorem q2440 : (Jvm.Cond.sameMethod "java/lang/AbstractStringBuilder" "java/lang/AbstractStringBuilder" "charAt" "(I)C") ∈ lw_all := lw_g (lw_at lw_m10 149 rfl) rfl
theorem q2441 : (Jvm.Cond.selects "java/lang/String" ({ cls := "java/lang/String", name := "charAt", desc := "(I)C" } : Jvm.MethodName) ({ cls := "java/lang/String", name := "charAt", desc := "(I)C" } : Jvm.MethodName)) ∈ lw_all := lw_g (lw_at lw_m10 150 rfl) rfl
theorem q2442 : (Jvm.Cond.initialized "java/lang/Object") ∈ lw_all := lw_g (lw_at lw_m10 151 rfl) rfl
theorem q2443 : (Jvm.Cond.arrayClass Jvm.ClassFile.FieldType.char) ∈ lw_all := lw_g (lw_at lw_m10 152 rfl) rfl
