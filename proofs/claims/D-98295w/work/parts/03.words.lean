/-! the tables' words -/
set_option maxRecDepth 100000
theorem q157 : (Jvm.Cond.initialized "LettersOnStrikeLaw") ∈ lw_all := lw_g (lw_at lw_m1 0 rfl) rfl
theorem q158 : (Jvm.Cond.initialized "LettersOnStrike") ∈ lw_all := lw_g (lw_at lw_m1 1 rfl) rfl
theorem q159 : (Jvm.Cond.initialized "LettersOnStrike$State") ∈ lw_all := lw_g (lw_at lw_m1 2 rfl) rfl
theorem q160 : (Jvm.Cond.initialized "java/util/Arrays") ∈ lw_all := lw_g (lw_at lw_m1 3 rfl) rfl
theorem q161 : (Jvm.Cond.initialized "java/lang/System") ∈ lw_all := lw_g (lw_at lw_m1 4 rfl) rfl
theorem q162 : (Jvm.Cond.initialized "LettersOnStrikeModel") ∈ lw_all := lw_g (lw_at lw_m1 5 rfl) rfl
theorem q163 : (Jvm.Cond.initialized "jdk/internal/util/ArraysSupport") ∈ lw_all := lw_g (lw_at lw_m1 6 rfl) rfl
theorem q164 : (Jvm.Cond.initialized "jdk/internal/misc/Unsafe") ∈ lw_all := lw_g (lw_at lw_m1 7 rfl) rfl
theorem q165 : (Jvm.Cond.initialized "jdk/internal/misc/UnsafeConstants") ∈ lw_all := lw_g (lw_at lw_m1 8 rfl) rfl
theorem q166 : (Jvm.Cond.initialized "java/lang/Number") ∈ lw_all := lw_g (lw_at lw_m1 9 rfl) rfl
theorem q167 : (Jvm.Cond.initialized "java/lang/Long") ∈ lw_all := lw_g (lw_at lw_m1 10 rfl) rfl
theorem q168 : (Jvm.Cond.initialized "java/lang/Integer") ∈ lw_all := lw_g (lw_at lw_m1 11 rfl) rfl
theorem q169 : (Jvm.Cond.initialized "java/lang/Record") ∈ lw_all := lw_g (lw_at lw_m1 12 rfl) rfl
theorem q170 : (Jvm.Cond.initialized "LettersOnStrike$Word") ∈ lw_all := lw_g (lw_at lw_m1 13 rfl) rfl
theorem q171 : (Jvm.Cond.initialized "LettersOnStrike$Tokens") ∈ lw_all := lw_g (lw_at lw_m1 14 rfl) rfl
theorem q172 : (Jvm.Cond.initialized "LettersOnStrike$Text") ∈ lw_all := lw_g (lw_at lw_m1 15 rfl) rfl
theorem q173 : (Jvm.Cond.initialized "java/util/AbstractCollection") ∈ lw_all := lw_g (lw_at lw_m1 16 rfl) rfl
theorem q174 : (Jvm.Cond.initialized "java/util/AbstractList") ∈ lw_all := lw_g (lw_at lw_m1 17 rfl) rfl
theorem q175 : (Jvm.Cond.initialized "java/util/ArrayList") ∈ lw_all := lw_g (lw_at lw_m1 18 rfl) rfl
theorem q176 : (Jvm.Cond.initialized "java/lang/String") ∈ lw_all := lw_g (lw_at lw_m1 19 rfl) rfl
theorem q177 : (Jvm.Cond.initialized "java/lang/StringLatin1") ∈ lw_all := lw_g (lw_at lw_m1 20 rfl) rfl
theorem q178 : (Jvm.Cond.initialized "jdk/internal/util/Preconditions") ∈ lw_all := lw_g (lw_at lw_m1 21 rfl) rfl
theorem q179 : (Jvm.Cond.initialized "java/lang/StringUTF16") ∈ lw_all := lw_g (lw_at lw_m1 22 rfl) rfl
theorem q180 : (Jvm.Cond.initialized "java/lang/Math") ∈ lw_all := lw_g (lw_at lw_m1 23 rfl) rfl
theorem q181 : (Jvm.Cond.initialized "java/lang/Throwable") ∈ lw_all := lw_g (lw_at lw_m1 24 rfl) rfl
theorem q182 : (Jvm.Cond.initialized "java/lang/Exception") ∈ lw_all := lw_g (lw_at lw_m1 25 rfl) rfl
theorem q183 : (Jvm.Cond.initialized "LettersOnStrike$Wrong") ∈ lw_all := lw_g (lw_at lw_m1 26 rfl) rfl
theorem q184 : (Jvm.Cond.initialized "LettersOnStrike$Not") ∈ lw_all := lw_g (lw_at lw_m1 27 rfl) rfl
theorem q185 : (Jvm.Cond.initialized "LettersOnStrike$Chain") ∈ lw_all := lw_g (lw_at lw_m1 28 rfl) rfl
theorem q186 : (Jvm.Cond.initialized "LettersOnStrike$Plain") ∈ lw_all := lw_g (lw_at lw_m1 29 rfl) rfl
theorem q187 : (Jvm.Cond.initialized "LettersOnStrike$Name") ∈ lw_all := lw_g (lw_at lw_m1 30 rfl) rfl
theorem q188 : (Jvm.Cond.initialized "LettersOnStrike$Minus") ∈ lw_all := lw_g (lw_at lw_m1 31 rfl) rfl
theorem q189 : (Jvm.Cond.initialized "java/lang/Integer$IntegerCache") ∈ lw_all := lw_g (lw_at lw_m1 32 rfl) rfl
theorem q190 : (Jvm.Cond.initialized "LettersOnStrike$Compared") ∈ lw_all := lw_g (lw_at lw_m1 33 rfl) rfl
theorem q191 : (Jvm.Cond.initialized "java/util/Objects") ∈ lw_all := lw_g (lw_at lw_m1 34 rfl) rfl
theorem q192 : (Jvm.Cond.initialized "LettersOnStrike$All") ∈ lw_all := lw_g (lw_at lw_m1 35 rfl) rfl
theorem q193 : (Jvm.Cond.initialized "LettersOnStrike$Doing") ∈ lw_all := lw_g (lw_at lw_m1 36 rfl) rfl
theorem q194 : (Jvm.Cond.classLink "LettersOnStrikeLaw" (7 : Nat) "LettersOnStrike") ∈ lw_all := lw_g (lw_at lw_m1 37 rfl) rfl
theorem q195 : (Jvm.Cond.instantiable "LettersOnStrike" (20 : Nat)) ∈ lw_all := lw_g (lw_at lw_m1 38 rfl) rfl
theorem q196 : (Jvm.Cond.methodLink "LettersOnStrikeLaw" (9 : Nat) ({ cls := "LettersOnStrike", name := "<init>", desc := "()V" } : Jvm.MethodName)) ∈ lw_all := lw_g (lw_at lw_m1 39 rfl) rfl
theorem q197 : (Jvm.Cond.instanceMethod ({ cls := "LettersOnStrike", name := "<init>", desc := "()V" } : Jvm.MethodName)) ∈ lw_all := lw_g (lw_at lw_m1 40 rfl) rfl
theorem q198 : (Jvm.Cond.code ({ cls := "LettersOnStrike", name := "<init>", desc := "()V" } : Jvm.MethodName) prog_1_method_3_code (1 : Nat) (Option.none : Option Jvm.ClassFile.FieldType)) ∈ lw_all := lw_g (lw_at lw_m1 41 rfl) rfl
theorem q199 : (Jvm.Cond.methodLink "LettersOnStrike" (3 : Nat) ({ cls := "java/lang/Object", name := "<init>", desc := "()V" } : Jvm.MethodName)) ∈ lw_all := lw_g (lw_at lw_m1 42 rfl) rfl
theorem q200 : (Jvm.Cond.instanceMethod ({ cls := "java/lang/Object", name := "<init>", desc := "()V" } : Jvm.MethodName)) ∈ lw_all := lw_g (lw_at lw_m1 43 rfl) rfl
theorem q201 : (Jvm.Cond.code ({ cls := "java/lang/Object", name := "<init>", desc := "()V" } : Jvm.MethodName) object_method_1_code (1 : Nat) (Option.none : Option Jvm.ClassFile.FieldType)) ∈ lw_all := lw_g (lw_at lw_m1 44 rfl) rfl
theorem q202 : (Jvm.Cond.classLink "LettersOnStrike" (9 : Nat) "LettersOnStrike$State") ∈ lw_all := lw_g (lw_at lw_m1 45 rfl) rfl
theorem q203 : (Jvm.Cond.instantiable "LettersOnStrike$State" (9 : Nat)) ∈ lw_all := lw_g (lw_at lw_m1 46 rfl) rfl
theorem q204 : (Jvm.Cond.methodLink "LettersOnStrike" (11 : Nat) ({ cls := "LettersOnStrike$State", name := "<init>", desc := "()V" } : Jvm.MethodName)) ∈ lw_all := lw_g (lw_at lw_m1 47 rfl) rfl
theorem q205 : (Jvm.Cond.instanceMethod ({ cls := "LettersOnStrike$State", name := "<init>", desc := "()V" } : Jvm.MethodName)) ∈ lw_all := lw_g (lw_at lw_m1 48 rfl) rfl
theorem q206 : (Jvm.Cond.code ({ cls := "LettersOnStrike$State", name := "<init>", desc := "()V" } : Jvm.MethodName) prog_11_method_1_code (1 : Nat) (Option.none : Option Jvm.ClassFile.FieldType)) ∈ lw_all := lw_g (lw_at lw_m1 49 rfl) rfl
theorem q207 : (Jvm.Cond.methodLink "LettersOnStrike$State" (3 : Nat) ({ cls := "java/lang/Object", name := "<init>", desc := "()V" } : Jvm.MethodName)) ∈ lw_all := lw_g (lw_at lw_m1 50 rfl) rfl
theorem q208 : (Jvm.Cond.classLink "LettersOnStrike$State" (24 : Nat) "LettersOnStrike$Word") ∈ lw_all := lw_g (lw_at lw_m1 51 rfl) rfl
theorem q209 : (Jvm.Cond.arrayOver (Jvm.ClassFile.FieldType.object "LettersOnStrike$Word")) ∈ lw_tbl := lw_at lw_m1 52 rfl
theorem q210 : (Jvm.Cond.classLink "LettersOnStrike$State" (30 : Nat) "[I") ∈ lw_all := lw_g (lw_at lw_m1 53 rfl) rfl
theorem q211 : (Jvm.Cond.arrayOver (Jvm.ClassFile.FieldType.array Jvm.ClassFile.FieldType.int)) ∈ lw_tbl := lw_at lw_m1 54 rfl
theorem q212 : (Jvm.Cond.classLink "LettersOnStrike$State" (35 : Nat) "[[I") ∈ lw_all := lw_g (lw_at lw_m1 55 rfl) rfl
theorem q213 : (Jvm.Cond.classLink "LettersOnStrike$State" (42 : Nat) "LettersOnStrike$Text") ∈ lw_all := lw_g (lw_at lw_m1 56 rfl) rfl
theorem q214 : (Jvm.Cond.arrayOver (Jvm.ClassFile.FieldType.object "LettersOnStrike$Text")) ∈ lw_tbl := lw_at lw_m1 57 rfl
theorem q215 : (Jvm.Cond.methodLink "LettersOnStrike$State" (48 : Nat) ({ cls := "java/util/Arrays", name := "fill", desc := "([IIII)V" } : Jvm.MethodName)) ∈ lw_all := lw_g (lw_at lw_m1 58 rfl) rfl
theorem q216 : (Jvm.Cond.static ({ cls := "java/util/Arrays", name := "fill", desc := "([IIII)V" } : Jvm.MethodName)) ∈ lw_all := lw_g (lw_at lw_m1 59 rfl) rfl
theorem q217 : (Jvm.Cond.code ({ cls := "java/util/Arrays", name := "fill", desc := "([IIII)V" } : Jvm.MethodName) prog_41_method_104_code (5 : Nat) (Option.none : Option Jvm.ClassFile.FieldType)) ∈ lw_all := lw_g (lw_at lw_m1 60 rfl) rfl
theorem q218 : (Jvm.Cond.methodLink "java/util/Arrays" (13 : Nat) ({ cls := "java/util/Arrays", name := "rangeCheck", desc := "(III)V" } : Jvm.MethodName)) ∈ lw_all := lw_g (lw_at lw_m1 61 rfl) rfl
theorem q219 : (Jvm.Cond.static ({ cls := "java/util/Arrays", name := "rangeCheck", desc := "(III)V" } : Jvm.MethodName)) ∈ lw_all := lw_g (lw_at lw_m1 62 rfl) rfl
theorem q220 : (Jvm.Cond.code ({ cls := "java/util/Arrays", name := "rangeCheck", desc := "(III)V" } : Jvm.MethodName) prog_41_method_30_code (3 : Nat) (Option.none : Option Jvm.ClassFile.FieldType)) ∈ lw_all := lw_g (lw_at lw_m1 63 rfl) rfl
theorem q221 : (Jvm.Cond.fieldLink "LettersOnStrike$State" (9 : Nat) "LettersOnStrike$State" "n" "[I") ∈ lw_all := lw_g (lw_at lw_m1 64 rfl) rfl
theorem q222 : (Jvm.Cond.fieldLinkNest "LettersOnStrike" (66 : Nat) "LettersOnStrike$State" "n" "[I" "LettersOnStrike") ∈ lw_tbl := lw_at lw_m1 65 rfl
theorem q223 : (Jvm.Cond.fieldLink "LettersOnStrike$State" (15 : Nat) "LettersOnStrike$State" "row" "[I") ∈ lw_all := lw_g (lw_at lw_m1 66 rfl) rfl
theorem q224 : (Jvm.Cond.fieldLinkNest "LettersOnStrike" (149 : Nat) "LettersOnStrike$State" "row" "[I" "LettersOnStrike") ∈ lw_tbl := lw_at lw_m1 67 rfl
theorem q225 : (Jvm.Cond.fieldLink "LettersOnStrike$State" (18 : Nat) "LettersOnStrike$State" "ties" "[I") ∈ lw_all := lw_g (lw_at lw_m1 68 rfl) rfl
theorem q226 : (Jvm.Cond.fieldLinkNest "LettersOnStrike" (74 : Nat) "LettersOnStrike$State" "ties" "[I" "LettersOnStrike") ∈ lw_tbl := lw_at lw_m1 69 rfl
theorem q227 : (Jvm.Cond.fieldLink "LettersOnStrike$State" (21 : Nat) "LettersOnStrike$State" "party" "[I") ∈ lw_all := lw_g (lw_at lw_m1 70 rfl) rfl
theorem q228 : (Jvm.Cond.fieldLinkNest "LettersOnStrike" (378 : Nat) "LettersOnStrike$State" "party" "[I" "LettersOnStrike") ∈ lw_tbl := lw_at lw_m1 71 rfl
theorem q229 : (Jvm.Cond.fieldLink "LettersOnStrike$State" (26 : Nat) "LettersOnStrike$State" "word" "[LLettersOnStrike$Word;") ∈ lw_all := lw_g (lw_at lw_m1 72 rfl) rfl
theorem q230 : (Jvm.Cond.fieldLinkNest "LettersOnStrike" (81 : Nat) "LettersOnStrike$State" "word" "[LLettersOnStrike$Word;" "LettersOnStrike") ∈ lw_tbl := lw_at lw_m1 73 rfl
theorem q231 : (Jvm.Cond.fieldLink "LettersOnStrike$State" (31 : Nat) "LettersOnStrike$State" "saying" "[[I") ∈ lw_all := lw_g (lw_at lw_m1 74 rfl) rfl
theorem q232 : (Jvm.Cond.fieldLinkNest "LettersOnStrike" (108 : Nat) "LettersOnStrike$State" "saying" "[[I" "LettersOnStrike") ∈ lw_tbl := lw_at lw_m1 75 rfl
theorem q233 : (Jvm.Cond.fieldLink "LettersOnStrike$State" (36 : Nat) "LettersOnStrike$State" "printed" "[[I") ∈ lw_all := lw_g (lw_at lw_m1 76 rfl) rfl
theorem q234 : (Jvm.Cond.fieldLinkNest "LettersOnStrike" (446 : Nat) "LettersOnStrike$State" "printed" "[[I" "LettersOnStrike") ∈ lw_tbl := lw_at lw_m1 77 rfl
theorem q235 : (Jvm.Cond.fieldLink "LettersOnStrike$State" (39 : Nat) "LettersOnStrike$State" "step" "[[I") ∈ lw_all := lw_g (lw_at lw_m1 78 rfl) rfl
theorem q236 : (Jvm.Cond.fieldLinkNest "LettersOnStrike" (335 : Nat) "LettersOnStrike$State" "step" "[[I" "LettersOnStrike") ∈ lw_tbl := lw_at lw_m1 79 rfl
theorem q237 : (Jvm.Cond.fieldLink "LettersOnStrike$State" (44 : Nat) "LettersOnStrike$State" "text" "[LLettersOnStrike$Text;") ∈ lw_all := lw_g (lw_at lw_m1 80 rfl) rfl
theorem q238 : (Jvm.Cond.fieldLinkNest "LettersOnStrike" (123 : Nat) "LettersOnStrike$State" "text" "[LLettersOnStrike$Text;" "LettersOnStrike") ∈ lw_tbl := lw_at lw_m1 81 rfl
theorem q239 : (Jvm.Cond.laysFinal "LettersOnStrike$State" "LettersOnStrike$State" "n" "[I") ∈ lw_all := lw_g (lw_at lw_m1 82 rfl) rfl
theorem q240 : (Jvm.Cond.soleField "LettersOnStrike$State" "n") ∈ lw_all := lw_g (lw_at lw_m1 83 rfl) rfl
theorem q241 : (Jvm.Cond.laysFinal "LettersOnStrike$State" "LettersOnStrike$State" "row" "[I") ∈ lw_all := lw_g (lw_at lw_m1 84 rfl) rfl
theorem q242 : (Jvm.Cond.soleField "LettersOnStrike$State" "row") ∈ lw_all := lw_g (lw_at lw_m1 85 rfl) rfl
theorem q243 : (Jvm.Cond.laysFinal "LettersOnStrike$State" "LettersOnStrike$State" "ties" "[I") ∈ lw_all := lw_g (lw_at lw_m1 86 rfl) rfl
theorem q244 : (Jvm.Cond.soleField "LettersOnStrike$State" "ties") ∈ lw_all := lw_g (lw_at lw_m1 87 rfl) rfl
theorem q245 : (Jvm.Cond.laysFinal "LettersOnStrike$State" "LettersOnStrike$State" "party" "[I") ∈ lw_all := lw_g (lw_at lw_m1 88 rfl) rfl
theorem q246 : (Jvm.Cond.soleField "LettersOnStrike$State" "party") ∈ lw_all := lw_g (lw_at lw_m1 89 rfl) rfl
theorem q247 : (Jvm.Cond.laysFinal "LettersOnStrike$State" "LettersOnStrike$State" "word" "[LLettersOnStrike$Word;") ∈ lw_all := lw_g (lw_at lw_m1 90 rfl) rfl
theorem q248 : (Jvm.Cond.soleField "LettersOnStrike$State" "word") ∈ lw_all := lw_g (lw_at lw_m1 91 rfl) rfl
theorem q249 : (Jvm.Cond.laysFinal "LettersOnStrike$State" "LettersOnStrike$State" "saying" "[[I") ∈ lw_all := lw_g (lw_at lw_m1 92 rfl) rfl
theorem q250 : (Jvm.Cond.soleField "LettersOnStrike$State" "saying") ∈ lw_all := lw_g (lw_at lw_m1 93 rfl) rfl
theorem q251 : (Jvm.Cond.laysFinal "LettersOnStrike$State" "LettersOnStrike$State" "printed" "[[I") ∈ lw_all := lw_g (lw_at lw_m1 94 rfl) rfl
theorem q252 : (Jvm.Cond.soleField "LettersOnStrike$State" "printed") ∈ lw_all := lw_g (lw_at lw_m1 95 rfl) rfl
theorem q253 : (Jvm.Cond.laysFinal "LettersOnStrike$State" "LettersOnStrike$State" "step" "[[I") ∈ lw_all := lw_g (lw_at lw_m1 96 rfl) rfl
theorem q254 : (Jvm.Cond.soleField "LettersOnStrike$State" "step") ∈ lw_all := lw_g (lw_at lw_m1 97 rfl) rfl
theorem q255 : (Jvm.Cond.laysFinal "LettersOnStrike$State" "LettersOnStrike$State" "text" "[LLettersOnStrike$Text;") ∈ lw_all := lw_g (lw_at lw_m1 98 rfl) rfl
theorem q256 : (Jvm.Cond.soleField "LettersOnStrike$State" "text") ∈ lw_all := lw_g (lw_at lw_m1 99 rfl) rfl
theorem q257 : (Jvm.Cond.superclass "LettersOnStrike$State" "java/lang/Object") ∈ lw_all := lw_g (lw_at lw_m1 100 rfl) rfl
theorem q258 : (Jvm.Cond.arrayClass Jvm.ClassFile.FieldType.int) ∈ lw_all := lw_g (lw_at lw_m1 101 rfl) rfl
theorem q259 : (Jvm.Cond.methodLink "LettersOnStrike" (58 : Nat) ({ cls := "LettersOnStrike$State", name := "be", desc := "(LLettersOnStrike$State;)V" } : Jvm.MethodName)) ∈ lw_all := lw_g (lw_at lw_m1 102 rfl) rfl
theorem q260 : (Jvm.Cond.instanceMethod ({ cls := "LettersOnStrike$State", name := "be", desc := "(LLettersOnStrike$State;)V" } : Jvm.MethodName)) ∈ lw_all := lw_g (lw_at lw_m1 103 rfl) rfl
theorem q261 : (Jvm.Cond.selects "LettersOnStrike$State" ({ cls := "LettersOnStrike$State", name := "be", desc := "(LLettersOnStrike$State;)V" } : Jvm.MethodName) ({ cls := "LettersOnStrike$State", name := "be", desc := "(LLettersOnStrike$State;)V" } : Jvm.MethodName)) ∈ lw_all := lw_g (lw_at lw_m1 104 rfl) rfl
theorem q262 : (Jvm.Cond.code ({ cls := "LettersOnStrike$State", name := "be", desc := "(LLettersOnStrike$State;)V" } : Jvm.MethodName) prog_11_method_4_code (2 : Nat) (Option.none : Option Jvm.ClassFile.FieldType)) ∈ lw_all := lw_g (lw_at lw_m1 105 rfl) rfl
theorem q263 : (Jvm.Cond.methodLink "LettersOnStrike$State" (60 : Nat) ({ cls := "LettersOnStrike$State", name := "copy", desc := "([I[I)V" } : Jvm.MethodName)) ∈ lw_all := lw_g (lw_at lw_m1 106 rfl) rfl
theorem q264 : (Jvm.Cond.static ({ cls := "LettersOnStrike$State", name := "copy", desc := "([I[I)V" } : Jvm.MethodName)) ∈ lw_all := lw_g (lw_at lw_m1 107 rfl) rfl
theorem q265 : (Jvm.Cond.code ({ cls := "LettersOnStrike$State", name := "copy", desc := "([I[I)V" } : Jvm.MethodName) prog_11_method_2_code (2 : Nat) (Option.none : Option Jvm.ClassFile.FieldType)) ∈ lw_all := lw_g (lw_at lw_m1 108 rfl) rfl
theorem q266 : (Jvm.Cond.methodLink "LettersOnStrike$State" (54 : Nat) ({ cls := "java/lang/System", name := "arraycopy", desc := "(Ljava/lang/Object;ILjava/lang/Object;II)V" } : Jvm.MethodName)) ∈ lw_all := lw_g (lw_at lw_m1 109 rfl) rfl
theorem q267 : (Jvm.Cond.static ({ cls := "java/lang/System", name := "arraycopy", desc := "(Ljava/lang/Object;ILjava/lang/Object;II)V" } : Jvm.MethodName)) ∈ lw_all := lw_g (lw_at lw_m1 110 rfl) rfl
theorem q268 : (Jvm.Cond.native ({ cls := "java/lang/System", name := "arraycopy", desc := "(Ljava/lang/Object;ILjava/lang/Object;II)V" } : Jvm.MethodName)) ∈ lw_all := lw_g (lw_at lw_m1 111 rfl) rfl
theorem q269 : (Jvm.Cond.methodLink "LettersOnStrike$State" (64 : Nat) ({ cls := "LettersOnStrike$State", name := "copy", desc := "([[I[[I)V" } : Jvm.MethodName)) ∈ lw_all := lw_g (lw_at lw_m1 112 rfl) rfl
theorem q270 : (Jvm.Cond.static ({ cls := "LettersOnStrike$State", name := "copy", desc := "([[I[[I)V" } : Jvm.MethodName)) ∈ lw_all := lw_g (lw_at lw_m1 113 rfl) rfl
theorem q271 : (Jvm.Cond.code ({ cls := "LettersOnStrike$State", name := "copy", desc := "([[I[[I)V" } : Jvm.MethodName) prog_11_method_3_code (3 : Nat) (Option.none : Option Jvm.ClassFile.FieldType)) ∈ lw_all := lw_g (lw_at lw_m1 114 rfl) rfl
theorem q272 : (Jvm.Cond.fieldLink "LettersOnStrike" (12 : Nat) "LettersOnStrike" "now" "LLettersOnStrike$State;") ∈ lw_all := lw_g (lw_at lw_m1 115 rfl) rfl
theorem q273 : (Jvm.Cond.fieldLink "LettersOnStrike" (16 : Nat) "LettersOnStrike" "image" "LLettersOnStrike$State;") ∈ lw_all := lw_g (lw_at lw_m1 116 rfl) rfl
theorem q274 : (Jvm.Cond.fieldLink "LettersOnStrike" (19 : Nat) "LettersOnStrike" "tape" "[B") ∈ lw_all := lw_g (lw_at lw_m1 117 rfl) rfl
theorem q275 : (Jvm.Cond.fieldLink "LettersOnStrike" (116 : Nat) "LettersOnStrike" "taped" "I") ∈ lw_all := lw_g (lw_at lw_m1 118 rfl) rfl
theorem q276 : (Jvm.Cond.fieldLink "LettersOnStrike" (23 : Nat) "LettersOnStrike" "fault" "I") ∈ lw_all := lw_g (lw_at lw_m1 119 rfl) rfl
theorem q277 : (Jvm.Cond.fieldLink "LettersOnStrike" (27 : Nat) "LettersOnStrike" "faultAt" "I") ∈ lw_all := lw_g (lw_at lw_m1 120 rfl) rfl
theorem q278 : (Jvm.Cond.fieldLink "LettersOnStrike" (30 : Nat) "LettersOnStrike" "names" "[I") ∈ lw_all := lw_g (lw_at lw_m1 121 rfl) rfl
theorem q279 : (Jvm.Cond.fieldLink "LettersOnStrike" (34 : Nat) "LettersOnStrike" "spoken" "[I") ∈ lw_all := lw_g (lw_at lw_m1 122 rfl) rfl
theorem q280 : (Jvm.Cond.fieldLink "LettersOnStrike" (37 : Nat) "LettersOnStrike" "share" "[I") ∈ lw_all := lw_g (lw_at lw_m1 123 rfl) rfl
theorem q281 : (Jvm.Cond.fieldLink "LettersOnStrike" (40 : Nat) "LettersOnStrike" "worths" "[I") ∈ lw_all := lw_g (lw_at lw_m1 124 rfl) rfl
theorem q282 : (Jvm.Cond.fieldLink "LettersOnStrike" (43 : Nat) "LettersOnStrike" "wins" "[B") ∈ lw_all := lw_g (lw_at lw_m1 125 rfl) rfl
theorem q283 : (Jvm.Cond.fieldLink "LettersOnStrike" (46 : Nat) "LettersOnStrike" "player" "[I") ∈ lw_all := lw_g (lw_at lw_m1 126 rfl) rfl
theorem q284 : (Jvm.Cond.fieldLink "LettersOnStrike" (391 : Nat) "LettersOnStrike" "players" "I") ∈ lw_all := lw_g (lw_at lw_m1 127 rfl) rfl
theorem q285 : (Jvm.Cond.fieldLink "LettersOnStrike" (49 : Nat) "LettersOnStrike" "tried" "[I") ∈ lw_all := lw_g (lw_at lw_m1 128 rfl) rfl
theorem q286 : (Jvm.Cond.fieldLink "LettersOnStrike" (52 : Nat) "LettersOnStrike" "chosen" "[I") ∈ lw_all := lw_g (lw_at lw_m1 129 rfl) rfl
theorem q287 : (Jvm.Cond.fieldLink "LettersOnStrike" (55 : Nat) "LettersOnStrike" "best" "[I") ∈ lw_all := lw_g (lw_at lw_m1 130 rfl) rfl
theorem q288 : (Jvm.Cond.fieldLink "LettersOnStrike" (426 : Nat) "LettersOnStrike" "bestMany" "I") ∈ lw_all := lw_g (lw_at lw_m1 131 rfl) rfl
theorem q289 : (Jvm.Cond.fieldLink "LettersOnStrike" (423 : Nat) "LettersOnStrike" "bestLetters" "I") ∈ lw_all := lw_g (lw_at lw_m1 132 rfl) rfl
theorem q290 : (Jvm.Cond.fieldLink "LettersOnStrike" (436 : Nat) "LettersOnStrike" "learnt" "I") ∈ lw_all := lw_g (lw_at lw_m1 133 rfl) rfl
theorem q291 : (Jvm.Cond.fieldLink "LettersOnStrike" (433 : Nat) "LettersOnStrike" "most" "I") ∈ lw_all := lw_g (lw_at lw_m1 134 rfl) rfl
theorem q292 : (Jvm.Cond.laysFinal "LettersOnStrike" "LettersOnStrike" "now" "LLettersOnStrike$State;") ∈ lw_all := lw_g (lw_at lw_m1 135 rfl) rfl
theorem q293 : (Jvm.Cond.soleField "LettersOnStrike" "now") ∈ lw_all := lw_g (lw_at lw_m1 136 rfl) rfl
theorem q294 : (Jvm.Cond.laysFinal "LettersOnStrike" "LettersOnStrike" "image" "LLettersOnStrike$State;") ∈ lw_all := lw_g (lw_at lw_m1 137 rfl) rfl
theorem q295 : (Jvm.Cond.soleField "LettersOnStrike" "image") ∈ lw_all := lw_g (lw_at lw_m1 138 rfl) rfl
theorem q296 : (Jvm.Cond.laysFinal "LettersOnStrike" "LettersOnStrike" "tape" "[B") ∈ lw_all := lw_g (lw_at lw_m1 139 rfl) rfl
theorem q297 : (Jvm.Cond.soleField "LettersOnStrike" "tape") ∈ lw_all := lw_g (lw_at lw_m1 140 rfl) rfl
theorem q298 : (Jvm.Cond.lays "LettersOnStrike" "LettersOnStrike" "taped" "I") ∈ lw_all := lw_g (lw_at lw_m1 141 rfl) rfl
theorem q299 : (Jvm.Cond.soleField "LettersOnStrike" "taped") ∈ lw_all := lw_g (lw_at lw_m1 142 rfl) rfl
theorem q300 : (Jvm.Cond.lays "LettersOnStrike" "LettersOnStrike" "fault" "I") ∈ lw_all := lw_g (lw_at lw_m1 143 rfl) rfl
theorem q301 : (Jvm.Cond.soleField "LettersOnStrike" "fault") ∈ lw_all := lw_g (lw_at lw_m1 144 rfl) rfl
theorem q302 : (Jvm.Cond.lays "LettersOnStrike" "LettersOnStrike" "faultAt" "I") ∈ lw_all := lw_g (lw_at lw_m1 145 rfl) rfl
theorem q303 : (Jvm.Cond.soleField "LettersOnStrike" "faultAt") ∈ lw_all := lw_g (lw_at lw_m1 146 rfl) rfl
theorem q304 : (Jvm.Cond.laysFinal "LettersOnStrike" "LettersOnStrike" "names" "[I") ∈ lw_all := lw_g (lw_at lw_m1 147 rfl) rfl
theorem q305 : (Jvm.Cond.soleField "LettersOnStrike" "names") ∈ lw_all := lw_g (lw_at lw_m1 148 rfl) rfl
theorem q306 : (Jvm.Cond.laysFinal "LettersOnStrike" "LettersOnStrike" "spoken" "[I") ∈ lw_all := lw_g (lw_at lw_m1 149 rfl) rfl
theorem q307 : (Jvm.Cond.soleField "LettersOnStrike" "spoken") ∈ lw_all := lw_g (lw_at lw_m1 150 rfl) rfl
theorem q308 : (Jvm.Cond.laysFinal "LettersOnStrike" "LettersOnStrike" "share" "[I") ∈ lw_all := lw_g (lw_at lw_m1 151 rfl) rfl
theorem q309 : (Jvm.Cond.soleField "LettersOnStrike" "share") ∈ lw_all := lw_g (lw_at lw_m1 152 rfl) rfl
theorem q310 : (Jvm.Cond.laysFinal "LettersOnStrike" "LettersOnStrike" "worths" "[I") ∈ lw_all := lw_g (lw_at lw_m1 153 rfl) rfl
theorem q311 : (Jvm.Cond.soleField "LettersOnStrike" "worths") ∈ lw_all := lw_g (lw_at lw_m1 154 rfl) rfl
theorem q312 : (Jvm.Cond.laysFinal "LettersOnStrike" "LettersOnStrike" "wins" "[B") ∈ lw_all := lw_g (lw_at lw_m1 155 rfl) rfl
theorem q313 : (Jvm.Cond.soleField "LettersOnStrike" "wins") ∈ lw_all := lw_g (lw_at lw_m1 156 rfl) rfl
theorem q314 : (Jvm.Cond.laysFinal "LettersOnStrike" "LettersOnStrike" "player" "[I") ∈ lw_all := lw_g (lw_at lw_m1 157 rfl) rfl
theorem q315 : (Jvm.Cond.soleField "LettersOnStrike" "player") ∈ lw_all := lw_g (lw_at lw_m1 158 rfl) rfl
theorem q316 : (Jvm.Cond.lays "LettersOnStrike" "LettersOnStrike" "players" "I") ∈ lw_all := lw_g (lw_at lw_m1 159 rfl) rfl
theorem q317 : (Jvm.Cond.soleField "LettersOnStrike" "players") ∈ lw_all := lw_g (lw_at lw_m1 160 rfl) rfl
theorem q318 : (Jvm.Cond.laysFinal "LettersOnStrike" "LettersOnStrike" "tried" "[I") ∈ lw_all := lw_g (lw_at lw_m1 161 rfl) rfl
theorem q319 : (Jvm.Cond.soleField "LettersOnStrike" "tried") ∈ lw_all := lw_g (lw_at lw_m1 162 rfl) rfl
theorem q320 : (Jvm.Cond.laysFinal "LettersOnStrike" "LettersOnStrike" "chosen" "[I") ∈ lw_all := lw_g (lw_at lw_m1 163 rfl) rfl
theorem q321 : (Jvm.Cond.soleField "LettersOnStrike" "chosen") ∈ lw_all := lw_g (lw_at lw_m1 164 rfl) rfl
theorem q322 : (Jvm.Cond.laysFinal "LettersOnStrike" "LettersOnStrike" "best" "[I") ∈ lw_all := lw_g (lw_at lw_m1 165 rfl) rfl
theorem q323 : (Jvm.Cond.soleField "LettersOnStrike" "best") ∈ lw_all := lw_g (lw_at lw_m1 166 rfl) rfl
theorem q324 : (Jvm.Cond.lays "LettersOnStrike" "LettersOnStrike" "bestMany" "I") ∈ lw_all := lw_g (lw_at lw_m1 167 rfl) rfl
theorem q325 : (Jvm.Cond.soleField "LettersOnStrike" "bestMany") ∈ lw_all := lw_g (lw_at lw_m1 168 rfl) rfl
theorem q326 : (Jvm.Cond.lays "LettersOnStrike" "LettersOnStrike" "bestLetters" "I") ∈ lw_all := lw_g (lw_at lw_m1 169 rfl) rfl
theorem q327 : (Jvm.Cond.soleField "LettersOnStrike" "bestLetters") ∈ lw_all := lw_g (lw_at lw_m1 170 rfl) rfl
theorem q328 : (Jvm.Cond.lays "LettersOnStrike" "LettersOnStrike" "learnt" "I") ∈ lw_all := lw_g (lw_at lw_m1 171 rfl) rfl
theorem q329 : (Jvm.Cond.soleField "LettersOnStrike" "learnt") ∈ lw_all := lw_g (lw_at lw_m1 172 rfl) rfl
theorem q330 : (Jvm.Cond.lays "LettersOnStrike" "LettersOnStrike" "most" "I") ∈ lw_all := lw_g (lw_at lw_m1 173 rfl) rfl
theorem q331 : (Jvm.Cond.soleField "LettersOnStrike" "most") ∈ lw_all := lw_g (lw_at lw_m1 174 rfl) rfl
theorem q332 : (Jvm.Cond.superclass "LettersOnStrike" "java/lang/Object") ∈ lw_all := lw_g (lw_at lw_m1 175 rfl) rfl
theorem q333 : (Jvm.Cond.arrayClass Jvm.ClassFile.FieldType.byte) ∈ lw_all := lw_g (lw_at lw_m1 176 rfl) rfl
theorem q334 : (Jvm.Cond.methodLink "LettersOnStrikeLaw" (13 : Nat) ({ cls := "LettersOnStrike", name := "tie", desc := "(II)Z" } : Jvm.MethodName)) ∈ lw_all := lw_g (lw_at lw_m1 177 rfl) rfl
theorem q335 : (Jvm.Cond.instanceMethod ({ cls := "LettersOnStrike", name := "tie", desc := "(II)Z" } : Jvm.MethodName)) ∈ lw_all := lw_g (lw_at lw_m1 178 rfl) rfl
theorem q336 : (Jvm.Cond.selects "LettersOnStrike" ({ cls := "LettersOnStrike", name := "tie", desc := "(II)Z" } : Jvm.MethodName) ({ cls := "LettersOnStrike", name := "tie", desc := "(II)Z" } : Jvm.MethodName)) ∈ lw_all := lw_g (lw_at lw_m1 179 rfl) rfl
theorem q337 : (Jvm.Cond.code ({ cls := "LettersOnStrike", name := "tie", desc := "(II)Z" } : Jvm.MethodName) prog_1_method_8_code (3 : Nat) (Option.some Jvm.ClassFile.FieldType.boolean)) ∈ lw_all := lw_g (lw_at lw_m1 180 rfl) rfl
theorem q338 : (Jvm.Cond.methodLink "LettersOnStrike" (70 : Nat) ({ cls := "LettersOnStrike", name := "isLetter", desc := "(I)Z" } : Jvm.MethodName)) ∈ lw_all := lw_g (lw_at lw_m1 181 rfl) rfl
theorem q339 : (Jvm.Cond.static ({ cls := "LettersOnStrike", name := "isLetter", desc := "(I)Z" } : Jvm.MethodName)) ∈ lw_all := lw_g (lw_at lw_m1 182 rfl) rfl
theorem q340 : (Jvm.Cond.code ({ cls := "LettersOnStrike", name := "isLetter", desc := "(I)Z" } : Jvm.MethodName) prog_1_method_4_code (1 : Nat) (Option.some Jvm.ClassFile.FieldType.boolean)) ∈ lw_all := lw_g (lw_at lw_m1 183 rfl) rfl
theorem q341 : (Jvm.Cond.methodLink "LettersOnStrike" (62 : Nat) ({ cls := "LettersOnStrike", name := "in", desc := "(III)Z" } : Jvm.MethodName)) ∈ lw_all := lw_g (lw_at lw_m1 184 rfl) rfl
theorem q342 : (Jvm.Cond.static ({ cls := "LettersOnStrike", name := "in", desc := "(III)Z" } : Jvm.MethodName)) ∈ lw_all := lw_g (lw_at lw_m1 185 rfl) rfl
theorem q343 : (Jvm.Cond.code ({ cls := "LettersOnStrike", name := "in", desc := "(III)Z" } : Jvm.MethodName) prog_1_method_1_code (3 : Nat) (Option.some Jvm.ClassFile.FieldType.boolean)) ∈ lw_all := lw_g (lw_at lw_m1 186 rfl) rfl
theorem q344 : (Jvm.Cond.methodLink "LettersOnStrike" (77 : Nat) ({ cls := "LettersOnStrike", name := "has", desc := "(II)Z" } : Jvm.MethodName)) ∈ lw_all := lw_g (lw_at lw_m1 187 rfl) rfl
theorem q345 : (Jvm.Cond.static ({ cls := "LettersOnStrike", name := "has", desc := "(II)Z" } : Jvm.MethodName)) ∈ lw_all := lw_g (lw_at lw_m1 188 rfl) rfl
theorem q346 : (Jvm.Cond.code ({ cls := "LettersOnStrike", name := "has", desc := "(II)Z" } : Jvm.MethodName) prog_1_method_2_code (2 : Nat) (Option.some Jvm.ClassFile.FieldType.boolean)) ∈ lw_all := lw_g (lw_at lw_m1 189 rfl) rfl
theorem q347 : (Jvm.Cond.methodLink "LettersOnStrikeLaw" (18 : Nat) ({ cls := "LettersOnStrike", name := "word", desc := "(III)I" } : Jvm.MethodName)) ∈ lw_all := lw_g (lw_at lw_m1 190 rfl) rfl
theorem q348 : (Jvm.Cond.instanceMethod ({ cls := "LettersOnStrike", name := "word", desc := "(III)I" } : Jvm.MethodName)) ∈ lw_all := lw_g (lw_at lw_m1 191 rfl) rfl
theorem q349 : (Jvm.Cond.selects "LettersOnStrike" ({ cls := "LettersOnStrike", name := "word", desc := "(III)I" } : Jvm.MethodName) ({ cls := "LettersOnStrike", name := "word", desc := "(III)I" } : Jvm.MethodName)) ∈ lw_all := lw_g (lw_at lw_m1 192 rfl) rfl
theorem q350 : (Jvm.Cond.code ({ cls := "LettersOnStrike", name := "word", desc := "(III)I" } : Jvm.MethodName) prog_1_method_11_code (8 : Nat) (Option.some Jvm.ClassFile.FieldType.int)) ∈ lw_all := lw_g (lw_at lw_m1 193 rfl) rfl
theorem q351 : (Jvm.Cond.methodLink "LettersOnStrike" (100 : Nat) ({ cls := "LettersOnStrike", name := "byteOf", desc := "(III)I" } : Jvm.MethodName)) ∈ lw_all := lw_g (lw_at lw_m1 194 rfl) rfl
theorem q352 : (Jvm.Cond.static ({ cls := "LettersOnStrike", name := "byteOf", desc := "(III)I" } : Jvm.MethodName)) ∈ lw_all := lw_g (lw_at lw_m1 195 rfl) rfl
theorem q353 : (Jvm.Cond.code ({ cls := "LettersOnStrike", name := "byteOf", desc := "(III)I" } : Jvm.MethodName) prog_1_method_10_code (3 : Nat) (Option.some Jvm.ClassFile.FieldType.int)) ∈ lw_all := lw_g (lw_at lw_m1 196 rfl) rfl
theorem q354 : (Jvm.Cond.methodLink "LettersOnStrike" (104 : Nat) ({ cls := "LettersOnStrike", name := "adds", desc := "([II)I" } : Jvm.MethodName)) ∈ lw_all := lw_g (lw_at lw_m1 197 rfl) rfl
theorem q355 : (Jvm.Cond.privateMethod ({ cls := "LettersOnStrike", name := "adds", desc := "([II)I" } : Jvm.MethodName)) ∈ lw_tbl := lw_at lw_m1 198 rfl
theorem q356 : (Jvm.Cond.instanceMethod ({ cls := "LettersOnStrike", name := "adds", desc := "([II)I" } : Jvm.MethodName)) ∈ lw_all := lw_g (lw_at lw_m1 199 rfl) rfl
theorem q357 : (Jvm.Cond.code ({ cls := "LettersOnStrike", name := "adds", desc := "([II)I" } : Jvm.MethodName) prog_1_method_9_code (8 : Nat) (Option.some Jvm.ClassFile.FieldType.int)) ∈ lw_all := lw_g (lw_at lw_m1 200 rfl) rfl
theorem q358 : (Jvm.Cond.methodLink "LettersOnStrike" (85 : Nat) ({ cls := "LettersOnStrike$Word", name := "letter", desc := "()[I" } : Jvm.MethodName)) ∈ lw_all := lw_g (lw_at lw_m1 201 rfl) rfl
theorem q359 : (Jvm.Cond.instanceMethod ({ cls := "LettersOnStrike$Word", name := "letter", desc := "()[I" } : Jvm.MethodName)) ∈ lw_all := lw_g (lw_at lw_m1 202 rfl) rfl
theorem q360 : (Jvm.Cond.selects "LettersOnStrike$Word" ({ cls := "LettersOnStrike$Word", name := "letter", desc := "()[I" } : Jvm.MethodName) ({ cls := "LettersOnStrike$Word", name := "letter", desc := "()[I" } : Jvm.MethodName)) ∈ lw_all := lw_g (lw_at lw_m1 203 rfl) rfl
theorem q361 : (Jvm.Cond.code ({ cls := "LettersOnStrike$Word", name := "letter", desc := "()[I" } : Jvm.MethodName) prog_15_method_6_code (1 : Nat) (Option.some (Jvm.ClassFile.FieldType.array Jvm.ClassFile.FieldType.int))) ∈ lw_all := lw_g (lw_at lw_m1 204 rfl) rfl
theorem q362 : (Jvm.Cond.methodLink "LettersOnStrike" (91 : Nat) ({ cls := "java/util/Arrays", name := "equals", desc := "([I[I)Z" } : Jvm.MethodName)) ∈ lw_all := lw_g (lw_at lw_m1 205 rfl) rfl
theorem q363 : (Jvm.Cond.static ({ cls := "java/util/Arrays", name := "equals", desc := "([I[I)Z" } : Jvm.MethodName)) ∈ lw_all := lw_g (lw_at lw_m1 206 rfl) rfl
theorem q364 : (Jvm.Cond.code ({ cls := "java/util/Arrays", name := "equals", desc := "([I[I)Z" } : Jvm.MethodName) prog_41_method_83_code (3 : Nat) (Option.some Jvm.ClassFile.FieldType.boolean)) ∈ lw_all := lw_g (lw_at lw_m1 207 rfl) rfl
theorem q365 : (Jvm.Cond.methodLink "java/util/Arrays" (254 : Nat) ({ cls := "jdk/internal/util/ArraysSupport", name := "mismatch", desc := "([I[II)I" } : Jvm.MethodName)) ∈ lw_all := lw_g (lw_at lw_m1 208 rfl) rfl
theorem q366 : (Jvm.Cond.static ({ cls := "jdk/internal/util/ArraysSupport", name := "mismatch", desc := "([I[II)I" } : Jvm.MethodName)) ∈ lw_all := lw_g (lw_at lw_m1 209 rfl) rfl
theorem q367 : (Jvm.Cond.code ({ cls := "jdk/internal/util/ArraysSupport", name := "mismatch", desc := "([I[II)I" } : Jvm.MethodName) prog_49_method_19_code (4 : Nat) (Option.some Jvm.ClassFile.FieldType.int)) ∈ lw_all := lw_g (lw_at lw_m1 210 rfl) rfl
theorem q368 : (Jvm.Cond.fieldLink "jdk/internal/util/ArraysSupport" (144 : Nat) "jdk/internal/misc/Unsafe" "ARRAY_INT_BASE_OFFSET" "I") ∈ lw_all := lw_g (lw_at lw_m1 211 rfl) rfl
theorem q369 : (Jvm.Cond.laysStatic "jdk/internal/misc/Unsafe" "ARRAY_INT_BASE_OFFSET" "I") ∈ lw_tbl := lw_at lw_m1 212 rfl
theorem q370 : (Jvm.Cond.fieldLink "jdk/internal/util/ArraysSupport" (51 : Nat) "jdk/internal/util/ArraysSupport" "LOG2_ARRAY_INT_INDEX_SCALE" "I") ∈ lw_all := lw_g (lw_at lw_m1 213 rfl) rfl
theorem q371 : (Jvm.Cond.laysStatic "jdk/internal/util/ArraysSupport" "LOG2_ARRAY_INT_INDEX_SCALE" "I") ∈ lw_tbl := lw_at lw_m1 214 rfl
theorem q372 : (Jvm.Cond.methodLink "jdk/internal/util/ArraysSupport" (122 : Nat) ({ cls := "jdk/internal/util/ArraysSupport", name := "vectorizedMismatch", desc := "(Ljava/lang/Object;JLjava/lang/Object;JII)I" } : Jvm.MethodName)) ∈ lw_all := lw_g (lw_at lw_m1 215 rfl) rfl
theorem q373 : (Jvm.Cond.static ({ cls := "jdk/internal/util/ArraysSupport", name := "vectorizedMismatch", desc := "(Ljava/lang/Object;JLjava/lang/Object;JII)I" } : Jvm.MethodName)) ∈ lw_all := lw_g (lw_at lw_m1 216 rfl) rfl
theorem q374 : (Jvm.Cond.code ({ cls := "jdk/internal/util/ArraysSupport", name := "vectorizedMismatch", desc := "(Ljava/lang/Object;JLjava/lang/Object;JII)I" } : Jvm.MethodName) prog_49_method_3_code (19 : Nat) (Option.some Jvm.ClassFile.FieldType.int)) ∈ lw_all := lw_g (lw_at lw_m1 217 rfl) rfl
theorem q375 : (Jvm.Cond.fieldLink "jdk/internal/util/ArraysSupport" (20 : Nat) "jdk/internal/util/ArraysSupport" "LOG2_ARRAY_LONG_INDEX_SCALE" "I") ∈ lw_all := lw_g (lw_at lw_m1 218 rfl) rfl
theorem q376 : (Jvm.Cond.laysStatic "jdk/internal/util/ArraysSupport" "LOG2_ARRAY_LONG_INDEX_SCALE" "I") ∈ lw_tbl := lw_at lw_m1 219 rfl
theorem q377 : (Jvm.Cond.fieldLink "jdk/internal/util/ArraysSupport" (26 : Nat) "jdk/internal/util/ArraysSupport" "U" "Ljdk/internal/misc/Unsafe;") ∈ lw_all := lw_g (lw_at lw_m1 220 rfl) rfl
theorem q378 : (Jvm.Cond.laysStatic "jdk/internal/util/ArraysSupport" "U" "Ljdk/internal/misc/Unsafe;") ∈ lw_tbl := lw_at lw_m1 221 rfl
theorem q379 : (Jvm.Cond.methodLink "jdk/internal/util/ArraysSupport" (30 : Nat) ({ cls := "jdk/internal/misc/Unsafe", name := "getLongUnaligned", desc := "(Ljava/lang/Object;J)J" } : Jvm.MethodName)) ∈ lw_all := lw_g (lw_at lw_m1 222 rfl) rfl
theorem q380 : (Jvm.Cond.instanceMethod ({ cls := "jdk/internal/misc/Unsafe", name := "getLongUnaligned", desc := "(Ljava/lang/Object;J)J" } : Jvm.MethodName)) ∈ lw_all := lw_g (lw_at lw_m1 223 rfl) rfl
theorem q381 : (Jvm.Cond.selects "jdk/internal/misc/Unsafe" ({ cls := "jdk/internal/misc/Unsafe", name := "getLongUnaligned", desc := "(Ljava/lang/Object;J)J" } : Jvm.MethodName) ({ cls := "jdk/internal/misc/Unsafe", name := "getLongUnaligned", desc := "(Ljava/lang/Object;J)J" } : Jvm.MethodName)) ∈ lw_all := lw_g (lw_at lw_m1 224 rfl) rfl
theorem q382 : (Jvm.Cond.code ({ cls := "jdk/internal/misc/Unsafe", name := "getLongUnaligned", desc := "(Ljava/lang/Object;J)J" } : Jvm.MethodName) prog_47_method_334_code (4 : Nat) (Option.some Jvm.ClassFile.FieldType.long)) ∈ lw_all := lw_g (lw_at lw_m1 225 rfl) rfl
theorem q383 : (Jvm.Cond.constantLong "jdk/internal/misc/Unsafe" (696 : Nat) (7 : Int64)) ∈ lw_all := lw_g (lw_at lw_m1 226 rfl) rfl
theorem q384 : (Jvm.Cond.methodLink "jdk/internal/misc/Unsafe" (27 : Nat) ({ cls := "jdk/internal/misc/Unsafe", name := "getLong", desc := "(Ljava/lang/Object;J)J" } : Jvm.MethodName)) ∈ lw_all := lw_g (lw_at lw_m1 227 rfl) rfl
theorem q385 : (Jvm.Cond.instanceMethod ({ cls := "jdk/internal/misc/Unsafe", name := "getLong", desc := "(Ljava/lang/Object;J)J" } : Jvm.MethodName)) ∈ lw_all := lw_g (lw_at lw_m1 228 rfl) rfl
theorem q386 : (Jvm.Cond.selects "jdk/internal/misc/Unsafe" ({ cls := "jdk/internal/misc/Unsafe", name := "getLong", desc := "(Ljava/lang/Object;J)J" } : Jvm.MethodName) ({ cls := "jdk/internal/misc/Unsafe", name := "getLong", desc := "(Ljava/lang/Object;J)J" } : Jvm.MethodName)) ∈ lw_all := lw_g (lw_at lw_m1 229 rfl) rfl
theorem q387 : (Jvm.Cond.native ({ cls := "jdk/internal/misc/Unsafe", name := "getLong", desc := "(Ljava/lang/Object;J)J" } : Jvm.MethodName)) ∈ lw_all := lw_g (lw_at lw_m1 230 rfl) rfl
theorem q388 : (Jvm.Cond.constantLong "jdk/internal/misc/Unsafe" (349 : Nat) (3 : Int64)) ∈ lw_all := lw_g (lw_at lw_m1 231 rfl) rfl
theorem q389 : (Jvm.Cond.methodLink "jdk/internal/misc/Unsafe" (17 : Nat) ({ cls := "jdk/internal/misc/Unsafe", name := "getInt", desc := "(Ljava/lang/Object;J)I" } : Jvm.MethodName)) ∈ lw_all := lw_g (lw_at lw_m1 232 rfl) rfl
theorem q390 : (Jvm.Cond.instanceMethod ({ cls := "jdk/internal/misc/Unsafe", name := "getInt", desc := "(Ljava/lang/Object;J)I" } : Jvm.MethodName)) ∈ lw_all := lw_g (lw_at lw_m1 233 rfl) rfl
theorem q391 : (Jvm.Cond.selects "jdk/internal/misc/Unsafe" ({ cls := "jdk/internal/misc/Unsafe", name := "getInt", desc := "(Ljava/lang/Object;J)I" } : Jvm.MethodName) ({ cls := "jdk/internal/misc/Unsafe", name := "getInt", desc := "(Ljava/lang/Object;J)I" } : Jvm.MethodName)) ∈ lw_all := lw_g (lw_at lw_m1 234 rfl) rfl
theorem q392 : (Jvm.Cond.native ({ cls := "jdk/internal/misc/Unsafe", name := "getInt", desc := "(Ljava/lang/Object;J)I" } : Jvm.MethodName)) ∈ lw_all := lw_g (lw_at lw_m1 235 rfl) rfl
theorem q393 : (Jvm.Cond.constantLong "jdk/internal/misc/Unsafe" (205 : Nat) (4 : Int64)) ∈ lw_all := lw_g (lw_at lw_m1 236 rfl) rfl
theorem q394 : (Jvm.Cond.methodLink "jdk/internal/misc/Unsafe" (698 : Nat) ({ cls := "jdk/internal/misc/Unsafe", name := "makeLong", desc := "(II)J" } : Jvm.MethodName)) ∈ lw_all := lw_g (lw_at lw_m1 237 rfl) rfl
theorem q395 : (Jvm.Cond.static ({ cls := "jdk/internal/misc/Unsafe", name := "makeLong", desc := "(II)J" } : Jvm.MethodName)) ∈ lw_all := lw_g (lw_at lw_m1 238 rfl) rfl
theorem q396 : (Jvm.Cond.code ({ cls := "jdk/internal/misc/Unsafe", name := "makeLong", desc := "(II)J" } : Jvm.MethodName) prog_47_method_353_code (2 : Nat) (Option.some Jvm.ClassFile.FieldType.long)) ∈ lw_all := lw_g (lw_at lw_m1 239 rfl) rfl
theorem q397 : (Jvm.Cond.methodLink "jdk/internal/misc/Unsafe" (791 : Nat) ({ cls := "jdk/internal/misc/Unsafe", name := "toUnsignedLong", desc := "(I)J" } : Jvm.MethodName)) ∈ lw_all := lw_g (lw_at lw_m2 0 rfl) rfl
theorem q398 : (Jvm.Cond.static ({ cls := "jdk/internal/misc/Unsafe", name := "toUnsignedLong", desc := "(I)J" } : Jvm.MethodName)) ∈ lw_all := lw_g (lw_at lw_m2 1 rfl) rfl
theorem q399 : (Jvm.Cond.code ({ cls := "jdk/internal/misc/Unsafe", name := "toUnsignedLong", desc := "(I)J" } : Jvm.MethodName) prog_47_method_370_code (1 : Nat) (Option.some Jvm.ClassFile.FieldType.long)) ∈ lw_all := lw_g (lw_at lw_m2 2 rfl) rfl
theorem q400 : (Jvm.Cond.constantLong "jdk/internal/misc/Unsafe" (812 : Nat) (4294967295 : Int64)) ∈ lw_all := lw_g (lw_at lw_m2 3 rfl) rfl
theorem q401 : (Jvm.Cond.methodLink "jdk/internal/misc/Unsafe" (784 : Nat) ({ cls := "jdk/internal/misc/Unsafe", name := "pickPos", desc := "(II)I" } : Jvm.MethodName)) ∈ lw_all := lw_g (lw_at lw_m2 4 rfl) rfl
theorem q402 : (Jvm.Cond.static ({ cls := "jdk/internal/misc/Unsafe", name := "pickPos", desc := "(II)I" } : Jvm.MethodName)) ∈ lw_all := lw_g (lw_at lw_m2 5 rfl) rfl
theorem q403 : (Jvm.Cond.code ({ cls := "jdk/internal/misc/Unsafe", name := "pickPos", desc := "(II)I" } : Jvm.MethodName) prog_47_method_350_code (2 : Nat) (Option.some Jvm.ClassFile.FieldType.int)) ∈ lw_all := lw_g (lw_at lw_m2 6 rfl) rfl
theorem q404 : (Jvm.Cond.fieldLink "jdk/internal/misc/Unsafe" (351 : Nat) "jdk/internal/misc/UnsafeConstants" "BIG_ENDIAN" "Z") ∈ lw_all := lw_g (lw_at lw_m2 7 rfl) rfl
theorem q405 : (Jvm.Cond.laysStatic "jdk/internal/misc/UnsafeConstants" "BIG_ENDIAN" "Z") ∈ lw_tbl := lw_at lw_m2 8 rfl
theorem q406 : (Jvm.Cond.methodLink "jdk/internal/misc/Unsafe" (47 : Nat) ({ cls := "jdk/internal/misc/Unsafe", name := "getShort", desc := "(Ljava/lang/Object;J)S" } : Jvm.MethodName)) ∈ lw_all := lw_g (lw_at lw_m2 9 rfl) rfl
theorem q407 : (Jvm.Cond.instanceMethod ({ cls := "jdk/internal/misc/Unsafe", name := "getShort", desc := "(Ljava/lang/Object;J)S" } : Jvm.MethodName)) ∈ lw_all := lw_g (lw_at lw_m2 10 rfl) rfl
theorem q408 : (Jvm.Cond.selects "jdk/internal/misc/Unsafe" ({ cls := "jdk/internal/misc/Unsafe", name := "getShort", desc := "(Ljava/lang/Object;J)S" } : Jvm.MethodName) ({ cls := "jdk/internal/misc/Unsafe", name := "getShort", desc := "(Ljava/lang/Object;J)S" } : Jvm.MethodName)) ∈ lw_all := lw_g (lw_at lw_m2 11 rfl) rfl
theorem q409 : (Jvm.Cond.native ({ cls := "jdk/internal/misc/Unsafe", name := "getShort", desc := "(Ljava/lang/Object;J)S" } : Jvm.MethodName)) ∈ lw_all := lw_g (lw_at lw_m2 12 rfl) rfl
theorem q410 : (Jvm.Cond.constantLong "jdk/internal/misc/Unsafe" (203 : Nat) (2 : Int64)) ∈ lw_all := lw_g (lw_at lw_m2 13 rfl) rfl
theorem q411 : (Jvm.Cond.constantLong "jdk/internal/misc/Unsafe" (702 : Nat) (6 : Int64)) ∈ lw_all := lw_g (lw_at lw_m2 14 rfl) rfl
theorem q412 : (Jvm.Cond.methodLink "jdk/internal/misc/Unsafe" (704 : Nat) ({ cls := "jdk/internal/misc/Unsafe", name := "makeLong", desc := "(SSSS)J" } : Jvm.MethodName)) ∈ lw_all := lw_g (lw_at lw_m2 15 rfl) rfl
theorem q413 : (Jvm.Cond.static ({ cls := "jdk/internal/misc/Unsafe", name := "makeLong", desc := "(SSSS)J" } : Jvm.MethodName)) ∈ lw_all := lw_g (lw_at lw_m2 16 rfl) rfl
theorem q414 : (Jvm.Cond.code ({ cls := "jdk/internal/misc/Unsafe", name := "makeLong", desc := "(SSSS)J" } : Jvm.MethodName) prog_47_method_352_code (4 : Nat) (Option.some Jvm.ClassFile.FieldType.long)) ∈ lw_all := lw_g (lw_at lw_m2 17 rfl) rfl
theorem q415 : (Jvm.Cond.methodLink "jdk/internal/misc/Unsafe" (788 : Nat) ({ cls := "jdk/internal/misc/Unsafe", name := "toUnsignedLong", desc := "(S)J" } : Jvm.MethodName)) ∈ lw_all := lw_g (lw_at lw_m2 18 rfl) rfl
theorem q416 : (Jvm.Cond.static ({ cls := "jdk/internal/misc/Unsafe", name := "toUnsignedLong", desc := "(S)J" } : Jvm.MethodName)) ∈ lw_all := lw_g (lw_at lw_m2 19 rfl) rfl
theorem q417 : (Jvm.Cond.code ({ cls := "jdk/internal/misc/Unsafe", name := "toUnsignedLong", desc := "(S)J" } : Jvm.MethodName) prog_47_method_369_code (1 : Nat) (Option.some Jvm.ClassFile.FieldType.long)) ∈ lw_all := lw_g (lw_at lw_m2 20 rfl) rfl
theorem q418 : (Jvm.Cond.constantLong "jdk/internal/misc/Unsafe" (810 : Nat) (65535 : Int64)) ∈ lw_all := lw_g (lw_at lw_m2 21 rfl) rfl
theorem q419 : (Jvm.Cond.methodLink "jdk/internal/misc/Unsafe" (39 : Nat) ({ cls := "jdk/internal/misc/Unsafe", name := "getByte", desc := "(Ljava/lang/Object;J)B" } : Jvm.MethodName)) ∈ lw_all := lw_g (lw_at lw_m2 22 rfl) rfl
theorem q420 : (Jvm.Cond.instanceMethod ({ cls := "jdk/internal/misc/Unsafe", name := "getByte", desc := "(Ljava/lang/Object;J)B" } : Jvm.MethodName)) ∈ lw_all := lw_g (lw_at lw_m2 23 rfl) rfl
theorem q421 : (Jvm.Cond.selects "jdk/internal/misc/Unsafe" ({ cls := "jdk/internal/misc/Unsafe", name := "getByte", desc := "(Ljava/lang/Object;J)B" } : Jvm.MethodName) ({ cls := "jdk/internal/misc/Unsafe", name := "getByte", desc := "(Ljava/lang/Object;J)B" } : Jvm.MethodName)) ∈ lw_all := lw_g (lw_at lw_m2 24 rfl) rfl
theorem q422 : (Jvm.Cond.native ({ cls := "jdk/internal/misc/Unsafe", name := "getByte", desc := "(Ljava/lang/Object;J)B" } : Jvm.MethodName)) ∈ lw_all := lw_g (lw_at lw_m2 25 rfl) rfl
theorem q423 : (Jvm.Cond.constantLong "jdk/internal/misc/Unsafe" (707 : Nat) (5 : Int64)) ∈ lw_all := lw_g (lw_at lw_m2 26 rfl) rfl
theorem q424 : (Jvm.Cond.methodLink "jdk/internal/misc/Unsafe" (709 : Nat) ({ cls := "jdk/internal/misc/Unsafe", name := "makeLong", desc := "(BBBBBBBB)J" } : Jvm.MethodName)) ∈ lw_all := lw_g (lw_at lw_m2 27 rfl) rfl
theorem q425 : (Jvm.Cond.static ({ cls := "jdk/internal/misc/Unsafe", name := "makeLong", desc := "(BBBBBBBB)J" } : Jvm.MethodName)) ∈ lw_all := lw_g (lw_at lw_m2 28 rfl) rfl
theorem q426 : (Jvm.Cond.code ({ cls := "jdk/internal/misc/Unsafe", name := "makeLong", desc := "(BBBBBBBB)J" } : Jvm.MethodName) prog_47_method_351_code (8 : Nat) (Option.some Jvm.ClassFile.FieldType.long)) ∈ lw_all := lw_g (lw_at lw_m2 29 rfl) rfl
theorem q427 : (Jvm.Cond.methodLink "jdk/internal/misc/Unsafe" (781 : Nat) ({ cls := "jdk/internal/misc/Unsafe", name := "toUnsignedLong", desc := "(B)J" } : Jvm.MethodName)) ∈ lw_all := lw_g (lw_at lw_m2 30 rfl) rfl
theorem q428 : (Jvm.Cond.static ({ cls := "jdk/internal/misc/Unsafe", name := "toUnsignedLong", desc := "(B)J" } : Jvm.MethodName)) ∈ lw_all := lw_g (lw_at lw_m2 31 rfl) rfl
theorem q429 : (Jvm.Cond.code ({ cls := "jdk/internal/misc/Unsafe", name := "toUnsignedLong", desc := "(B)J" } : Jvm.MethodName) prog_47_method_368_code (1 : Nat) (Option.some Jvm.ClassFile.FieldType.long)) ∈ lw_all := lw_g (lw_at lw_m2 32 rfl) rfl
theorem q430 : (Jvm.Cond.constantLong "jdk/internal/misc/Unsafe" (808 : Nat) (255 : Int64)) ∈ lw_all := lw_g (lw_at lw_m2 33 rfl) rfl
theorem q431 : (Jvm.Cond.fieldLink "jdk/internal/util/ArraysSupport" (36 : Nat) "jdk/internal/util/ArraysSupport" "BIG_ENDIAN" "Z") ∈ lw_all := lw_g (lw_at lw_m2 34 rfl) rfl
theorem q432 : (Jvm.Cond.laysStatic "jdk/internal/util/ArraysSupport" "BIG_ENDIAN" "Z") ∈ lw_tbl := lw_at lw_m2 35 rfl
theorem q433 : (Jvm.Cond.methodLink "jdk/internal/util/ArraysSupport" (40 : Nat) ({ cls := "java/lang/Long", name := "numberOfLeadingZeros", desc := "(J)I" } : Jvm.MethodName)) ∈ lw_all := lw_g (lw_at lw_m2 36 rfl) rfl
theorem q434 : (Jvm.Cond.static ({ cls := "java/lang/Long", name := "numberOfLeadingZeros", desc := "(J)I" } : Jvm.MethodName)) ∈ lw_all := lw_g (lw_at lw_m2 37 rfl) rfl
theorem q435 : (Jvm.Cond.code ({ cls := "java/lang/Long", name := "numberOfLeadingZeros", desc := "(J)I" } : Jvm.MethodName) prog_27_method_48_code (3 : Nat) (Option.some Jvm.ClassFile.FieldType.int)) ∈ lw_all := lw_g (lw_at lw_m2 38 rfl) rfl
theorem q436 : (Jvm.Cond.methodLink "java/lang/Long" (308 : Nat) ({ cls := "java/lang/Integer", name := "numberOfLeadingZeros", desc := "(I)I" } : Jvm.MethodName)) ∈ lw_all := lw_g (lw_at lw_m2 39 rfl) rfl
theorem q437 : (Jvm.Cond.static ({ cls := "java/lang/Integer", name := "numberOfLeadingZeros", desc := "(I)I" } : Jvm.MethodName)) ∈ lw_all := lw_g (lw_at lw_m2 40 rfl) rfl
theorem q438 : (Jvm.Cond.code ({ cls := "java/lang/Integer", name := "numberOfLeadingZeros", desc := "(I)I" } : Jvm.MethodName) prog_24_method_47_code (2 : Nat) (Option.some Jvm.ClassFile.FieldType.int)) ∈ lw_all := lw_g (lw_at lw_m2 41 rfl) rfl
theorem q439 : (Jvm.Cond.constant "java/lang/Integer" (264 : Nat) (65536 : Int32)) ∈ lw_all := lw_g (lw_at lw_m2 42 rfl) rfl
theorem q440 : (Jvm.Cond.fieldLink "jdk/internal/util/ArraysSupport" (46 : Nat) "jdk/internal/util/ArraysSupport" "LOG2_BYTE_BIT_SIZE" "I") ∈ lw_all := lw_g (lw_at lw_m2 43 rfl) rfl
theorem q441 : (Jvm.Cond.laysStatic "jdk/internal/util/ArraysSupport" "LOG2_BYTE_BIT_SIZE" "I") ∈ lw_tbl := lw_at lw_m2 44 rfl
theorem q442 : (Jvm.Cond.methodLink "jdk/internal/util/ArraysSupport" (49 : Nat) ({ cls := "java/lang/Long", name := "numberOfTrailingZeros", desc := "(J)I" } : Jvm.MethodName)) ∈ lw_all := lw_g (lw_at lw_m2 45 rfl) rfl
theorem q443 : (Jvm.Cond.static ({ cls := "java/lang/Long", name := "numberOfTrailingZeros", desc := "(J)I" } : Jvm.MethodName)) ∈ lw_all := lw_g (lw_at lw_m2 46 rfl) rfl
theorem q444 : (Jvm.Cond.code ({ cls := "java/lang/Long", name := "numberOfTrailingZeros", desc := "(J)I" } : Jvm.MethodName) prog_27_method_49_code (3 : Nat) (Option.some Jvm.ClassFile.FieldType.int)) ∈ lw_all := lw_g (lw_at lw_m2 47 rfl) rfl
theorem q445 : (Jvm.Cond.methodLink "java/lang/Long" (311 : Nat) ({ cls := "java/lang/Integer", name := "numberOfTrailingZeros", desc := "(I)I" } : Jvm.MethodName)) ∈ lw_all := lw_g (lw_at lw_m2 48 rfl) rfl
theorem q446 : (Jvm.Cond.static ({ cls := "java/lang/Integer", name := "numberOfTrailingZeros", desc := "(I)I" } : Jvm.MethodName)) ∈ lw_all := lw_g (lw_at lw_m2 49 rfl) rfl
theorem q447 : (Jvm.Cond.code ({ cls := "java/lang/Integer", name := "numberOfTrailingZeros", desc := "(I)I" } : Jvm.MethodName) prog_24_method_48_code (2 : Nat) (Option.some Jvm.ClassFile.FieldType.int)) ∈ lw_all := lw_g (lw_at lw_m2 50 rfl) rfl
theorem q448 : (Jvm.Cond.methodLink "jdk/internal/util/ArraysSupport" (54 : Nat) ({ cls := "jdk/internal/misc/Unsafe", name := "getIntUnaligned", desc := "(Ljava/lang/Object;J)I" } : Jvm.MethodName)) ∈ lw_all := lw_g (lw_at lw_m2 51 rfl) rfl
theorem q449 : (Jvm.Cond.instanceMethod ({ cls := "jdk/internal/misc/Unsafe", name := "getIntUnaligned", desc := "(Ljava/lang/Object;J)I" } : Jvm.MethodName)) ∈ lw_all := lw_g (lw_at lw_m2 52 rfl) rfl
theorem q450 : (Jvm.Cond.selects "jdk/internal/misc/Unsafe" ({ cls := "jdk/internal/misc/Unsafe", name := "getIntUnaligned", desc := "(Ljava/lang/Object;J)I" } : Jvm.MethodName) ({ cls := "jdk/internal/misc/Unsafe", name := "getIntUnaligned", desc := "(Ljava/lang/Object;J)I" } : Jvm.MethodName)) ∈ lw_all := lw_g (lw_at lw_m2 53 rfl) rfl
theorem q451 : (Jvm.Cond.code ({ cls := "jdk/internal/misc/Unsafe", name := "getIntUnaligned", desc := "(Ljava/lang/Object;J)I" } : Jvm.MethodName) prog_47_method_336_code (4 : Nat) (Option.some Jvm.ClassFile.FieldType.int)) ∈ lw_all := lw_g (lw_at lw_m2 54 rfl) rfl
theorem q452 : (Jvm.Cond.methodLink "jdk/internal/misc/Unsafe" (719 : Nat) ({ cls := "jdk/internal/misc/Unsafe", name := "makeInt", desc := "(SS)I" } : Jvm.MethodName)) ∈ lw_all := lw_g (lw_at lw_m2 55 rfl) rfl
theorem q453 : (Jvm.Cond.static ({ cls := "jdk/internal/misc/Unsafe", name := "makeInt", desc := "(SS)I" } : Jvm.MethodName)) ∈ lw_all := lw_g (lw_at lw_m2 56 rfl) rfl
theorem q454 : (Jvm.Cond.code ({ cls := "jdk/internal/misc/Unsafe", name := "makeInt", desc := "(SS)I" } : Jvm.MethodName) prog_47_method_354_code (2 : Nat) (Option.some Jvm.ClassFile.FieldType.int)) ∈ lw_all := lw_g (lw_at lw_m2 57 rfl) rfl
theorem q455 : (Jvm.Cond.methodLink "jdk/internal/misc/Unsafe" (792 : Nat) ({ cls := "jdk/internal/misc/Unsafe", name := "toUnsignedInt", desc := "(S)I" } : Jvm.MethodName)) ∈ lw_all := lw_g (lw_at lw_m2 58 rfl) rfl
theorem q456 : (Jvm.Cond.static ({ cls := "jdk/internal/misc/Unsafe", name := "toUnsignedInt", desc := "(S)I" } : Jvm.MethodName)) ∈ lw_all := lw_g (lw_at lw_m2 59 rfl) rfl
theorem q457 : (Jvm.Cond.code ({ cls := "jdk/internal/misc/Unsafe", name := "toUnsignedInt", desc := "(S)I" } : Jvm.MethodName) prog_47_method_367_code (1 : Nat) (Option.some Jvm.ClassFile.FieldType.int)) ∈ lw_all := lw_g (lw_at lw_m2 60 rfl) rfl
theorem q458 : (Jvm.Cond.constant "jdk/internal/misc/Unsafe" (374 : Nat) (65535 : Int32)) ∈ lw_all := lw_g (lw_at lw_m2 61 rfl) rfl
theorem q459 : (Jvm.Cond.methodLink "jdk/internal/misc/Unsafe" (723 : Nat) ({ cls := "jdk/internal/misc/Unsafe", name := "makeInt", desc := "(BBBB)I" } : Jvm.MethodName)) ∈ lw_all := lw_g (lw_at lw_m2 62 rfl) rfl
theorem q460 : (Jvm.Cond.static ({ cls := "jdk/internal/misc/Unsafe", name := "makeInt", desc := "(BBBB)I" } : Jvm.MethodName)) ∈ lw_all := lw_g (lw_at lw_m2 63 rfl) rfl
theorem q461 : (Jvm.Cond.code ({ cls := "jdk/internal/misc/Unsafe", name := "makeInt", desc := "(BBBB)I" } : Jvm.MethodName) prog_47_method_355_code (4 : Nat) (Option.some Jvm.ClassFile.FieldType.int)) ∈ lw_all := lw_g (lw_at lw_m2 64 rfl) rfl
theorem q462 : (Jvm.Cond.methodLink "jdk/internal/misc/Unsafe" (796 : Nat) ({ cls := "jdk/internal/misc/Unsafe", name := "toUnsignedInt", desc := "(B)I" } : Jvm.MethodName)) ∈ lw_all := lw_g (lw_at lw_m2 65 rfl) rfl
theorem q463 : (Jvm.Cond.static ({ cls := "jdk/internal/misc/Unsafe", name := "toUnsignedInt", desc := "(B)I" } : Jvm.MethodName)) ∈ lw_all := lw_g (lw_at lw_m2 66 rfl) rfl
theorem q464 : (Jvm.Cond.code ({ cls := "jdk/internal/misc/Unsafe", name := "toUnsignedInt", desc := "(B)I" } : Jvm.MethodName) prog_47_method_366_code (1 : Nat) (Option.some Jvm.ClassFile.FieldType.int)) ∈ lw_all := lw_g (lw_at lw_m2 67 rfl) rfl
theorem q465 : (Jvm.Cond.methodLink "jdk/internal/util/ArraysSupport" (58 : Nat) ({ cls := "java/lang/Integer", name := "numberOfLeadingZeros", desc := "(I)I" } : Jvm.MethodName)) ∈ lw_all := lw_g (lw_at lw_m2 68 rfl) rfl
theorem q466 : (Jvm.Cond.methodLink "jdk/internal/util/ArraysSupport" (11 : Nat) ({ cls := "java/lang/Integer", name := "numberOfTrailingZeros", desc := "(I)I" } : Jvm.MethodName)) ∈ lw_all := lw_g (lw_at lw_m2 69 rfl) rfl
theorem q467 : (Jvm.Cond.classLink "LettersOnStrike" (86 : Nat) "LettersOnStrike$Word") ∈ lw_all := lw_g (lw_at lw_m2 70 rfl) rfl
theorem q468 : (Jvm.Cond.instantiable "LettersOnStrike$Word" (3 : Nat)) ∈ lw_all := lw_g (lw_at lw_m2 71 rfl) rfl
theorem q469 : (Jvm.Cond.methodLinkNest "LettersOnStrike" (97 : Nat) ({ cls := "LettersOnStrike$Word", name := "<init>", desc := "([III)V" } : Jvm.MethodName) "LettersOnStrike") ∈ lw_tbl := lw_at lw_m2 72 rfl
theorem q470 : (Jvm.Cond.instanceMethod ({ cls := "LettersOnStrike$Word", name := "<init>", desc := "([III)V" } : Jvm.MethodName)) ∈ lw_all := lw_g (lw_at lw_m2 73 rfl) rfl
theorem q471 : (Jvm.Cond.code ({ cls := "LettersOnStrike$Word", name := "<init>", desc := "([III)V" } : Jvm.MethodName) prog_15_method_1_code (4 : Nat) (Option.none : Option Jvm.ClassFile.FieldType)) ∈ lw_all := lw_g (lw_at lw_m2 74 rfl) rfl
theorem q472 : (Jvm.Cond.methodLink "LettersOnStrike$Word" (1 : Nat) ({ cls := "java/lang/Record", name := "<init>", desc := "()V" } : Jvm.MethodName)) ∈ lw_all := lw_g (lw_at lw_m2 75 rfl) rfl
theorem q473 : (Jvm.Cond.instanceMethod ({ cls := "java/lang/Record", name := "<init>", desc := "()V" } : Jvm.MethodName)) ∈ lw_all := lw_g (lw_at lw_m2 76 rfl) rfl
theorem q474 : (Jvm.Cond.code ({ cls := "java/lang/Record", name := "<init>", desc := "()V" } : Jvm.MethodName) prog_30_method_1_code (1 : Nat) (Option.none : Option Jvm.ClassFile.FieldType)) ∈ lw_all := lw_g (lw_at lw_m2 77 rfl) rfl
theorem q475 : (Jvm.Cond.methodLink "java/lang/Record" (1 : Nat) ({ cls := "java/lang/Object", name := "<init>", desc := "()V" } : Jvm.MethodName)) ∈ lw_all := lw_g (lw_at lw_m2 78 rfl) rfl
theorem q476 : (Jvm.Cond.fieldLink "LettersOnStrike$Word" (7 : Nat) "LettersOnStrike$Word" "letter" "[I") ∈ lw_all := lw_g (lw_at lw_m2 79 rfl) rfl
theorem q477 : (Jvm.Cond.fieldLink "LettersOnStrike$Word" (13 : Nat) "LettersOnStrike$Word" "bits" "I") ∈ lw_all := lw_g (lw_at lw_m2 80 rfl) rfl
theorem q478 : (Jvm.Cond.fieldLink "LettersOnStrike$Word" (17 : Nat) "LettersOnStrike$Word" "sense" "I") ∈ lw_all := lw_g (lw_at lw_m2 81 rfl) rfl
theorem q479 : (Jvm.Cond.laysFinal "LettersOnStrike$Word" "LettersOnStrike$Word" "letter" "[I") ∈ lw_all := lw_g (lw_at lw_m2 82 rfl) rfl
theorem q480 : (Jvm.Cond.soleField "LettersOnStrike$Word" "letter") ∈ lw_all := lw_g (lw_at lw_m2 83 rfl) rfl
theorem q481 : (Jvm.Cond.laysFinal "LettersOnStrike$Word" "LettersOnStrike$Word" "bits" "I") ∈ lw_all := lw_g (lw_at lw_m2 84 rfl) rfl
theorem q482 : (Jvm.Cond.soleField "LettersOnStrike$Word" "bits") ∈ lw_all := lw_g (lw_at lw_m2 85 rfl) rfl
theorem q483 : (Jvm.Cond.laysFinal "LettersOnStrike$Word" "LettersOnStrike$Word" "sense" "I") ∈ lw_all := lw_g (lw_at lw_m2 86 rfl) rfl
theorem q484 : (Jvm.Cond.soleField "LettersOnStrike$Word" "sense") ∈ lw_all := lw_g (lw_at lw_m2 87 rfl) rfl
theorem q485 : (Jvm.Cond.superclass "LettersOnStrike$Word" "java/lang/Record") ∈ lw_all := lw_g (lw_at lw_m2 88 rfl) rfl
theorem q486 : (Jvm.Cond.methodLink "LettersOnStrikeLaw" (23 : Nat) ({ cls := "LettersOnStrike", name := "saying", desc := "(I)I" } : Jvm.MethodName)) ∈ lw_all := lw_g (lw_at lw_m2 89 rfl) rfl
theorem q487 : (Jvm.Cond.instanceMethod ({ cls := "LettersOnStrike", name := "saying", desc := "(I)I" } : Jvm.MethodName)) ∈ lw_all := lw_g (lw_at lw_m2 90 rfl) rfl
theorem q488 : (Jvm.Cond.selects "LettersOnStrike" ({ cls := "LettersOnStrike", name := "saying", desc := "(I)I" } : Jvm.MethodName) ({ cls := "LettersOnStrike", name := "saying", desc := "(I)I" } : Jvm.MethodName)) ∈ lw_all := lw_g (lw_at lw_m2 91 rfl) rfl
theorem q489 : (Jvm.Cond.code ({ cls := "LettersOnStrike", name := "saying", desc := "(I)I" } : Jvm.MethodName) prog_1_method_13_code (7 : Nat) (Option.some Jvm.ClassFile.FieldType.int)) ∈ lw_all := lw_g (lw_at lw_m2 92 rfl) rfl
theorem q490 : (Jvm.Cond.methodLink "LettersOnStrike" (112 : Nat) ({ cls := "LettersOnStrike", name := "addsSaying", desc := "([I)I" } : Jvm.MethodName)) ∈ lw_all := lw_g (lw_at lw_m2 93 rfl) rfl
theorem q491 : (Jvm.Cond.privateMethod ({ cls := "LettersOnStrike", name := "addsSaying", desc := "([I)I" } : Jvm.MethodName)) ∈ lw_tbl := lw_at lw_m2 94 rfl
theorem q492 : (Jvm.Cond.instanceMethod ({ cls := "LettersOnStrike", name := "addsSaying", desc := "([I)I" } : Jvm.MethodName)) ∈ lw_all := lw_g (lw_at lw_m2 95 rfl) rfl
theorem q493 : (Jvm.Cond.code ({ cls := "LettersOnStrike", name := "addsSaying", desc := "([I)I" } : Jvm.MethodName) prog_1_method_12_code (2 : Nat) (Option.some Jvm.ClassFile.FieldType.int)) ∈ lw_all := lw_g (lw_at lw_m2 96 rfl) rfl
theorem q494 : (Jvm.Cond.methodLink "LettersOnStrikeLaw" (28 : Nat) ({ cls := "LettersOnStrike", name := "feed", desc := "(IIIII)I" } : Jvm.MethodName)) ∈ lw_all := lw_g (lw_at lw_m2 97 rfl) rfl
theorem q495 : (Jvm.Cond.instanceMethod ({ cls := "LettersOnStrike", name := "feed", desc := "(IIIII)I" } : Jvm.MethodName)) ∈ lw_all := lw_g (lw_at lw_m2 98 rfl) rfl
theorem q496 : (Jvm.Cond.selects "LettersOnStrike" ({ cls := "LettersOnStrike", name := "feed", desc := "(IIIII)I" } : Jvm.MethodName) ({ cls := "LettersOnStrike", name := "feed", desc := "(IIIII)I" } : Jvm.MethodName)) ∈ lw_all := lw_g (lw_at lw_m2 99 rfl) rfl
theorem q497 : (Jvm.Cond.code ({ cls := "LettersOnStrike", name := "feed", desc := "(IIIII)I" } : Jvm.MethodName) prog_1_method_15_code (6 : Nat) (Option.some Jvm.ClassFile.FieldType.int)) ∈ lw_all := lw_g (lw_at lw_m2 100 rfl) rfl
theorem q498 : (Jvm.Cond.methodLink "LettersOnStrike" (119 : Nat) ({ cls := "LettersOnStrike", name := "put", desc := "(I)V" } : Jvm.MethodName)) ∈ lw_all := lw_g (lw_at lw_m2 101 rfl) rfl
theorem q499 : (Jvm.Cond.privateMethod ({ cls := "LettersOnStrike", name := "put", desc := "(I)V" } : Jvm.MethodName)) ∈ lw_tbl := lw_at lw_m2 102 rfl
theorem q500 : (Jvm.Cond.instanceMethod ({ cls := "LettersOnStrike", name := "put", desc := "(I)V" } : Jvm.MethodName)) ∈ lw_all := lw_g (lw_at lw_m2 103 rfl) rfl
theorem q501 : (Jvm.Cond.code ({ cls := "LettersOnStrike", name := "put", desc := "(I)V" } : Jvm.MethodName) prog_1_method_14_code (3 : Nat) (Option.none : Option Jvm.ClassFile.FieldType)) ∈ lw_all := lw_g (lw_at lw_m2 104 rfl) rfl
theorem q502 : (Jvm.Cond.methodLink "LettersOnStrikeLaw" (33 : Nat) ({ cls := "LettersOnStrike", name := "end", desc := "(I)I" } : Jvm.MethodName)) ∈ lw_all := lw_g (lw_at lw_m2 105 rfl) rfl
theorem q503 : (Jvm.Cond.instanceMethod ({ cls := "LettersOnStrike", name := "end", desc := "(I)I" } : Jvm.MethodName)) ∈ lw_all := lw_g (lw_at lw_m2 106 rfl) rfl
theorem q504 : (Jvm.Cond.selects "LettersOnStrike" ({ cls := "LettersOnStrike", name := "end", desc := "(I)I" } : Jvm.MethodName) ({ cls := "LettersOnStrike", name := "end", desc := "(I)I" } : Jvm.MethodName)) ∈ lw_all := lw_g (lw_at lw_m2 107 rfl) rfl
theorem q505 : (Jvm.Cond.code ({ cls := "LettersOnStrike", name := "end", desc := "(I)I" } : Jvm.MethodName) prog_1_method_16_code (2 : Nat) (Option.some Jvm.ClassFile.FieldType.int)) ∈ lw_all := lw_g (lw_at lw_m2 108 rfl) rfl
theorem q506 : (Jvm.Cond.methodLink "LettersOnStrikeLaw" (37 : Nat) ({ cls := "LettersOnStrike", name := "text", desc := "()I" } : Jvm.MethodName)) ∈ lw_all := lw_g (lw_at lw_m2 109 rfl) rfl
theorem q507 : (Jvm.Cond.instanceMethod ({ cls := "LettersOnStrike", name := "text", desc := "()I" } : Jvm.MethodName)) ∈ lw_all := lw_g (lw_at lw_m2 110 rfl) rfl
theorem q508 : (Jvm.Cond.selects "LettersOnStrike" ({ cls := "LettersOnStrike", name := "text", desc := "()I" } : Jvm.MethodName) ({ cls := "LettersOnStrike", name := "text", desc := "()I" } : Jvm.MethodName)) ∈ lw_all := lw_g (lw_at lw_m2 111 rfl) rfl
theorem q509 : (Jvm.Cond.codeWith ({ cls := "LettersOnStrike", name := "text", desc := "()I" } : Jvm.MethodName) prog_1_method_17_code (5 : Nat) (Option.some Jvm.ClassFile.FieldType.int) [((30 : Nat), (62 : Nat), (70 : Nat), (136 : Nat)), ((30 : Nat), (62 : Nat), (96 : Nat), (0 : Nat)), ((70 : Nat), (89 : Nat), (96 : Nat), (0 : Nat)), ((96 : Nat), (98 : Nat), (96 : Nat), (0 : Nat))]) ∈ lw_all := lw_g (lw_at lw_m2 112 rfl) rfl
theorem q510 : (Jvm.Cond.classLink "LettersOnStrike" (136 : Nat) "LettersOnStrike$Wrong") ∈ lw_all := lw_g (lw_at lw_m2 113 rfl) rfl
theorem q511 : (Jvm.Cond.classLink "LettersOnStrike" (127 : Nat) "LettersOnStrike$Tokens") ∈ lw_all := lw_g (lw_at lw_m2 114 rfl) rfl
theorem q512 : (Jvm.Cond.instantiable "LettersOnStrike$Tokens" (8 : Nat)) ∈ lw_all := lw_g (lw_at lw_m2 115 rfl) rfl
theorem q513 : (Jvm.Cond.methodLink "LettersOnStrike" (129 : Nat) ({ cls := "LettersOnStrike$Tokens", name := "<init>", desc := "([BI)V" } : Jvm.MethodName)) ∈ lw_all := lw_g (lw_at lw_m2 116 rfl) rfl
theorem q514 : (Jvm.Cond.instanceMethod ({ cls := "LettersOnStrike$Tokens", name := "<init>", desc := "([BI)V" } : Jvm.MethodName)) ∈ lw_all := lw_g (lw_at lw_m2 117 rfl) rfl
theorem q515 : (Jvm.Cond.code ({ cls := "LettersOnStrike$Tokens", name := "<init>", desc := "([BI)V" } : Jvm.MethodName) prog_14_method_1_code (3 : Nat) (Option.none : Option Jvm.ClassFile.FieldType)) ∈ lw_all := lw_g (lw_at lw_m2 118 rfl) rfl
theorem q516 : (Jvm.Cond.methodLink "LettersOnStrike$Tokens" (3 : Nat) ({ cls := "java/lang/Object", name := "<init>", desc := "()V" } : Jvm.MethodName)) ∈ lw_all := lw_g (lw_at lw_m2 119 rfl) rfl
theorem q517 : (Jvm.Cond.fieldLink "LettersOnStrike$Tokens" (9 : Nat) "LettersOnStrike$Tokens" "text" "[B") ∈ lw_all := lw_g (lw_at lw_m2 120 rfl) rfl
theorem q518 : (Jvm.Cond.fieldLink "LettersOnStrike$Tokens" (15 : Nat) "LettersOnStrike$Tokens" "size" "I") ∈ lw_all := lw_g (lw_at lw_m2 121 rfl) rfl
theorem q519 : (Jvm.Cond.fieldLink "LettersOnStrike$Tokens" (19 : Nat) "LettersOnStrike$Tokens" "at" "I") ∈ lw_all := lw_g (lw_at lw_m2 122 rfl) rfl
theorem q520 : (Jvm.Cond.fieldLink "LettersOnStrike$Tokens" (22 : Nat) "LettersOnStrike$Tokens" "token" "I") ∈ lw_all := lw_g (lw_at lw_m2 123 rfl) rfl
theorem q521 : (Jvm.Cond.fieldLink "LettersOnStrike$Tokens" (25 : Nat) "LettersOnStrike$Tokens" "sort" "I") ∈ lw_all := lw_g (lw_at lw_m2 124 rfl) rfl
theorem q522 : (Jvm.Cond.fieldLink "LettersOnStrike$Tokens" (43 : Nat) "LettersOnStrike$Tokens" "number" "I") ∈ lw_all := lw_g (lw_at lw_m2 125 rfl) rfl
theorem q523 : (Jvm.Cond.fieldLink "LettersOnStrike$Tokens" (77 : Nat) "LettersOnStrike$Tokens" "open" "I") ∈ lw_all := lw_g (lw_at lw_m2 126 rfl) rfl
theorem q524 : (Jvm.Cond.fieldLink "LettersOnStrike$Tokens" (83 : Nat) "LettersOnStrike$Tokens" "kind" "I") ∈ lw_all := lw_g (lw_at lw_m2 127 rfl) rfl
theorem q525 : (Jvm.Cond.laysFinal "LettersOnStrike$Tokens" "LettersOnStrike$Tokens" "text" "[B") ∈ lw_all := lw_g (lw_at lw_m2 128 rfl) rfl
theorem q526 : (Jvm.Cond.soleField "LettersOnStrike$Tokens" "text") ∈ lw_all := lw_g (lw_at lw_m2 129 rfl) rfl
theorem q527 : (Jvm.Cond.laysFinal "LettersOnStrike$Tokens" "LettersOnStrike$Tokens" "size" "I") ∈ lw_all := lw_g (lw_at lw_m2 130 rfl) rfl
theorem q528 : (Jvm.Cond.soleField "LettersOnStrike$Tokens" "size") ∈ lw_all := lw_g (lw_at lw_m2 131 rfl) rfl
theorem q529 : (Jvm.Cond.lays "LettersOnStrike$Tokens" "LettersOnStrike$Tokens" "at" "I") ∈ lw_all := lw_g (lw_at lw_m2 132 rfl) rfl
theorem q530 : (Jvm.Cond.soleField "LettersOnStrike$Tokens" "at") ∈ lw_all := lw_g (lw_at lw_m2 133 rfl) rfl
theorem q531 : (Jvm.Cond.lays "LettersOnStrike$Tokens" "LettersOnStrike$Tokens" "token" "I") ∈ lw_all := lw_g (lw_at lw_m2 134 rfl) rfl
theorem q532 : (Jvm.Cond.soleField "LettersOnStrike$Tokens" "token") ∈ lw_all := lw_g (lw_at lw_m2 135 rfl) rfl
theorem q533 : (Jvm.Cond.lays "LettersOnStrike$Tokens" "LettersOnStrike$Tokens" "sort" "I") ∈ lw_all := lw_g (lw_at lw_m2 136 rfl) rfl
theorem q534 : (Jvm.Cond.soleField "LettersOnStrike$Tokens" "sort") ∈ lw_all := lw_g (lw_at lw_m2 137 rfl) rfl
theorem q535 : (Jvm.Cond.lays "LettersOnStrike$Tokens" "LettersOnStrike$Tokens" "number" "I") ∈ lw_all := lw_g (lw_at lw_m2 138 rfl) rfl
theorem q536 : (Jvm.Cond.soleField "LettersOnStrike$Tokens" "number") ∈ lw_all := lw_g (lw_at lw_m2 139 rfl) rfl
theorem q537 : (Jvm.Cond.lays "LettersOnStrike$Tokens" "LettersOnStrike$Tokens" "open" "I") ∈ lw_all := lw_g (lw_at lw_m2 140 rfl) rfl
theorem q538 : (Jvm.Cond.soleField "LettersOnStrike$Tokens" "open") ∈ lw_all := lw_g (lw_at lw_m2 141 rfl) rfl
theorem q539 : (Jvm.Cond.lays "LettersOnStrike$Tokens" "LettersOnStrike$Tokens" "kind" "I") ∈ lw_all := lw_g (lw_at lw_m2 142 rfl) rfl
theorem q540 : (Jvm.Cond.soleField "LettersOnStrike$Tokens" "kind") ∈ lw_all := lw_g (lw_at lw_m2 143 rfl) rfl
theorem q541 : (Jvm.Cond.superclass "LettersOnStrike$Tokens" "java/lang/Object") ∈ lw_all := lw_g (lw_at lw_m2 144 rfl) rfl
theorem q542 : (Jvm.Cond.methodLink "LettersOnStrike" (132 : Nat) ({ cls := "LettersOnStrike$Tokens", name := "read", desc := "()LLettersOnStrike$Text;" } : Jvm.MethodName)) ∈ lw_all := lw_g (lw_at lw_m2 145 rfl) rfl
theorem q543 : (Jvm.Cond.instanceMethod ({ cls := "LettersOnStrike$Tokens", name := "read", desc := "()LLettersOnStrike$Text;" } : Jvm.MethodName)) ∈ lw_all := lw_g (lw_at lw_m2 146 rfl) rfl
theorem q544 : (Jvm.Cond.selects "LettersOnStrike$Tokens" ({ cls := "LettersOnStrike$Tokens", name := "read", desc := "()LLettersOnStrike$Text;" } : Jvm.MethodName) ({ cls := "LettersOnStrike$Tokens", name := "read", desc := "()LLettersOnStrike$Text;" } : Jvm.MethodName)) ∈ lw_all := lw_g (lw_at lw_m2 147 rfl) rfl
theorem q545 : (Jvm.Cond.code ({ cls := "LettersOnStrike$Tokens", name := "read", desc := "()LLettersOnStrike$Text;" } : Jvm.MethodName) prog_14_method_10_code (2 : Nat) (Option.some (Jvm.ClassFile.FieldType.object "LettersOnStrike$Text"))) ∈ lw_all := lw_g (lw_at lw_m2 148 rfl) rfl
theorem q546 : (Jvm.Cond.classLink "LettersOnStrike$Tokens" (80 : Nat) "LettersOnStrike$Text") ∈ lw_all := lw_g (lw_at lw_m2 149 rfl) rfl
theorem q547 : (Jvm.Cond.instantiable "LettersOnStrike$Text" (6 : Nat)) ∈ lw_all := lw_g (lw_at lw_m2 150 rfl) rfl
theorem q548 : (Jvm.Cond.methodLinkNest "LettersOnStrike$Tokens" (82 : Nat) ({ cls := "LettersOnStrike$Text", name := "<init>", desc := "()V" } : Jvm.MethodName) "LettersOnStrike") ∈ lw_tbl := lw_at lw_m2 151 rfl
theorem q549 : (Jvm.Cond.instanceMethod ({ cls := "LettersOnStrike$Text", name := "<init>", desc := "()V" } : Jvm.MethodName)) ∈ lw_all := lw_g (lw_at lw_m2 152 rfl) rfl
theorem q550 : (Jvm.Cond.code ({ cls := "LettersOnStrike$Text", name := "<init>", desc := "()V" } : Jvm.MethodName) prog_13_method_1_code (1 : Nat) (Option.none : Option Jvm.ClassFile.FieldType)) ∈ lw_all := lw_g (lw_at lw_m2 153 rfl) rfl
theorem q551 : (Jvm.Cond.methodLink "LettersOnStrike$Text" (1 : Nat) ({ cls := "java/lang/Object", name := "<init>", desc := "()V" } : Jvm.MethodName)) ∈ lw_all := lw_g (lw_at lw_m2 154 rfl) rfl
theorem q552 : (Jvm.Cond.classLink "LettersOnStrike$Text" (7 : Nat) "java/util/ArrayList") ∈ lw_all := lw_g (lw_at lw_m2 155 rfl) rfl
theorem q553 : (Jvm.Cond.instantiable "java/util/ArrayList" (3 : Nat)) ∈ lw_all := lw_g (lw_at lw_m2 156 rfl) rfl
theorem q554 : (Jvm.Cond.methodLink "LettersOnStrike$Text" (9 : Nat) ({ cls := "java/util/ArrayList", name := "<init>", desc := "()V" } : Jvm.MethodName)) ∈ lw_all := lw_g (lw_at lw_m2 157 rfl) rfl
theorem q555 : (Jvm.Cond.instanceMethod ({ cls := "java/util/ArrayList", name := "<init>", desc := "()V" } : Jvm.MethodName)) ∈ lw_all := lw_g (lw_at lw_m2 158 rfl) rfl
theorem q556 : (Jvm.Cond.code ({ cls := "java/util/ArrayList", name := "<init>", desc := "()V" } : Jvm.MethodName) prog_40_method_2_code (1 : Nat) (Option.none : Option Jvm.ClassFile.FieldType)) ∈ lw_all := lw_g (lw_at lw_m2 159 rfl) rfl
theorem q557 : (Jvm.Cond.methodLink "java/util/ArrayList" (1 : Nat) ({ cls := "java/util/AbstractList", name := "<init>", desc := "()V" } : Jvm.MethodName)) ∈ lw_all := lw_g (lw_at lw_m2 160 rfl) rfl
theorem q558 : (Jvm.Cond.instanceMethod ({ cls := "java/util/AbstractList", name := "<init>", desc := "()V" } : Jvm.MethodName)) ∈ lw_all := lw_g (lw_at lw_m2 161 rfl) rfl
theorem q559 : (Jvm.Cond.code ({ cls := "java/util/AbstractList", name := "<init>", desc := "()V" } : Jvm.MethodName) prog_39_method_1_code (1 : Nat) (Option.none : Option Jvm.ClassFile.FieldType)) ∈ lw_all := lw_g (lw_at lw_m2 162 rfl) rfl
theorem q560 : (Jvm.Cond.methodLink "java/util/AbstractList" (1 : Nat) ({ cls := "java/util/AbstractCollection", name := "<init>", desc := "()V" } : Jvm.MethodName)) ∈ lw_all := lw_g (lw_at lw_m2 163 rfl) rfl
theorem q561 : (Jvm.Cond.instanceMethod ({ cls := "java/util/AbstractCollection", name := "<init>", desc := "()V" } : Jvm.MethodName)) ∈ lw_all := lw_g (lw_at lw_m2 164 rfl) rfl
theorem q562 : (Jvm.Cond.code ({ cls := "java/util/AbstractCollection", name := "<init>", desc := "()V" } : Jvm.MethodName) prog_38_method_1_code (1 : Nat) (Option.none : Option Jvm.ClassFile.FieldType)) ∈ lw_all := lw_g (lw_at lw_m2 165 rfl) rfl
theorem q563 : (Jvm.Cond.methodLink "java/util/AbstractCollection" (1 : Nat) ({ cls := "java/lang/Object", name := "<init>", desc := "()V" } : Jvm.MethodName)) ∈ lw_all := lw_g (lw_at lw_m2 166 rfl) rfl
theorem q564 : (Jvm.Cond.fieldLink "java/util/ArrayList" (39 : Nat) "java/util/ArrayList" "DEFAULTCAPACITY_EMPTY_ELEMENTDATA" "[Ljava/lang/Object;") ∈ lw_all := lw_g (lw_at lw_m2 167 rfl) rfl
theorem q565 : (Jvm.Cond.laysStatic "java/util/ArrayList" "DEFAULTCAPACITY_EMPTY_ELEMENTDATA" "[Ljava/lang/Object;") ∈ lw_tbl := lw_at lw_m2 168 rfl
theorem q566 : (Jvm.Cond.fieldLink "java/util/ArrayList" (9 : Nat) "java/util/ArrayList" "elementData" "[Ljava/lang/Object;") ∈ lw_all := lw_g (lw_at lw_m2 169 rfl) rfl
theorem q567 : (Jvm.Cond.fieldLink "java/util/ArrayList" (48 : Nat) "java/util/ArrayList" "size" "I") ∈ lw_all := lw_g (lw_at lw_m2 170 rfl) rfl
theorem q568 : (Jvm.Cond.fieldLink "java/util/AbstractList" (7 : Nat) "java/util/AbstractList" "modCount" "I") ∈ lw_all := lw_g (lw_at lw_m2 171 rfl) rfl
theorem q569 : (Jvm.Cond.fieldLink "java/util/ArrayList" (63 : Nat) "java/util/ArrayList" "modCount" "I") ∈ lw_all := lw_g (lw_at lw_m2 172 rfl) rfl
theorem q570 : (Jvm.Cond.sameField "java/util/ArrayList" "java/util/AbstractList" "modCount" "I") ∈ lw_all := lw_g (lw_at lw_m2 173 rfl) rfl
theorem q571 : (Jvm.Cond.lays "java/util/ArrayList" "java/util/ArrayList" "elementData" "[Ljava/lang/Object;") ∈ lw_all := lw_g (lw_at lw_m2 174 rfl) rfl
theorem q572 : (Jvm.Cond.soleField "java/util/ArrayList" "elementData") ∈ lw_all := lw_g (lw_at lw_m2 175 rfl) rfl
theorem q573 : (Jvm.Cond.lays "java/util/ArrayList" "java/util/ArrayList" "size" "I") ∈ lw_all := lw_g (lw_at lw_m2 176 rfl) rfl
theorem q574 : (Jvm.Cond.soleField "java/util/ArrayList" "size") ∈ lw_all := lw_g (lw_at lw_m2 177 rfl) rfl
theorem q575 : (Jvm.Cond.lays "java/util/ArrayList" "java/util/AbstractList" "modCount" "I") ∈ lw_all := lw_g (lw_at lw_m2 178 rfl) rfl
theorem q576 : (Jvm.Cond.soleField "java/util/AbstractList" "modCount") ∈ lw_all := lw_g (lw_at lw_m2 179 rfl) rfl
theorem q577 : (Jvm.Cond.superclass "java/util/ArrayList" "java/util/AbstractList") ∈ lw_all := lw_g (lw_at lw_m2 180 rfl) rfl
theorem q578 : (Jvm.Cond.fieldLinkNest "LettersOnStrike$Tokens" (86 : Nat) "LettersOnStrike$Text" "joins" "LLettersOnStrike$Asked;" "LettersOnStrike") ∈ lw_tbl := lw_at lw_m2 181 rfl
theorem q579 : (Jvm.Cond.fieldLinkNest "LettersOnStrike" (177 : Nat) "LettersOnStrike$Text" "joins" "LLettersOnStrike$Asked;" "LettersOnStrike") ∈ lw_tbl := lw_at lw_m2 182 rfl
theorem q580 : (Jvm.Cond.fieldLinkNest "LettersOnStrike$Tokens" (90 : Nat) "LettersOnStrike$Text" "returns" "LLettersOnStrike$Asked;" "LettersOnStrike") ∈ lw_tbl := lw_at lw_m2 183 rfl
theorem q581 : (Jvm.Cond.fieldLinkNest "LettersOnStrike" (171 : Nat) "LettersOnStrike$Text" "returns" "LLettersOnStrike$Asked;" "LettersOnStrike") ∈ lw_tbl := lw_at lw_m2 184 rfl
theorem q582 : (Jvm.Cond.fieldLinkNest "LettersOnStrike$Tokens" (97 : Nat) "LettersOnStrike$Text" "binds" "LLettersOnStrike$Asked;" "LettersOnStrike") ∈ lw_tbl := lw_at lw_m2 185 rfl
theorem q583 : (Jvm.Cond.fieldLinkNest "LettersOnStrike" (458 : Nat) "LettersOnStrike$Text" "binds" "LLettersOnStrike$Asked;" "LettersOnStrike") ∈ lw_tbl := lw_at lw_m2 186 rfl
theorem q584 : (Jvm.Cond.fieldLinkNest "LettersOnStrike$Tokens" (93 : Nat) "LettersOnStrike$Text" "price" "LLettersOnStrike$Sum;" "LettersOnStrike") ∈ lw_tbl := lw_at lw_m2 187 rfl
theorem q585 : (Jvm.Cond.fieldLinkNest "LettersOnStrike" (195 : Nat) "LettersOnStrike$Text" "price" "LLettersOnStrike$Sum;" "LettersOnStrike") ∈ lw_tbl := lw_at lw_m2 188 rfl
theorem q586 : (Jvm.Cond.fieldLinkNest "LettersOnStrike$Tokens" (100 : Nat) "LettersOnStrike$Text" "clauses" "I" "LettersOnStrike") ∈ lw_tbl := lw_at lw_m2 189 rfl
theorem q587 : (Jvm.Cond.fieldLink "LettersOnStrike$Text" (10 : Nat) "LettersOnStrike$Text" "doings" "Ljava/util/ArrayList;") ∈ lw_all := lw_g (lw_at lw_m2 190 rfl) rfl
theorem q588 : (Jvm.Cond.fieldLinkNest "LettersOnStrike$Tokens" (119 : Nat) "LettersOnStrike$Text" "doings" "Ljava/util/ArrayList;" "LettersOnStrike") ∈ lw_tbl := lw_at lw_m2 191 rfl
theorem q589 : (Jvm.Cond.fieldLinkNest "LettersOnStrike" (308 : Nat) "LettersOnStrike$Text" "doings" "Ljava/util/ArrayList;" "LettersOnStrike") ∈ lw_tbl := lw_at lw_m2 192 rfl
theorem q590 : (Jvm.Cond.lays "LettersOnStrike$Text" "LettersOnStrike$Text" "joins" "LLettersOnStrike$Asked;") ∈ lw_all := lw_g (lw_at lw_m2 193 rfl) rfl
theorem q591 : (Jvm.Cond.soleField "LettersOnStrike$Text" "joins") ∈ lw_all := lw_g (lw_at lw_m2 194 rfl) rfl
theorem q592 : (Jvm.Cond.lays "LettersOnStrike$Text" "LettersOnStrike$Text" "returns" "LLettersOnStrike$Asked;") ∈ lw_all := lw_g (lw_at lw_m2 195 rfl) rfl
theorem q593 : (Jvm.Cond.soleField "LettersOnStrike$Text" "returns") ∈ lw_all := lw_g (lw_at lw_m2 196 rfl) rfl
theorem q594 : (Jvm.Cond.lays "LettersOnStrike$Text" "LettersOnStrike$Text" "binds" "LLettersOnStrike$Asked;") ∈ lw_all := lw_g (lw_at lw_m2 197 rfl) rfl
theorem q595 : (Jvm.Cond.soleField "LettersOnStrike$Text" "binds") ∈ lw_all := lw_g (lw_at lw_m2 198 rfl) rfl
theorem q596 : (Jvm.Cond.lays "LettersOnStrike$Text" "LettersOnStrike$Text" "price" "LLettersOnStrike$Sum;") ∈ lw_all := lw_g (lw_at lw_m2 199 rfl) rfl
theorem q597 : (Jvm.Cond.soleField "LettersOnStrike$Text" "price") ∈ lw_all := lw_g (lw_at lw_m2 200 rfl) rfl
theorem q598 : (Jvm.Cond.lays "LettersOnStrike$Text" "LettersOnStrike$Text" "clauses" "I") ∈ lw_all := lw_g (lw_at lw_m2 201 rfl) rfl
theorem q599 : (Jvm.Cond.soleField "LettersOnStrike$Text" "clauses") ∈ lw_all := lw_g (lw_at lw_m2 202 rfl) rfl
theorem q600 : (Jvm.Cond.laysFinal "LettersOnStrike$Text" "LettersOnStrike$Text" "doings" "Ljava/util/ArrayList;") ∈ lw_all := lw_g (lw_at lw_m2 203 rfl) rfl
theorem q601 : (Jvm.Cond.soleField "LettersOnStrike$Text" "doings") ∈ lw_all := lw_g (lw_at lw_m2 204 rfl) rfl
theorem q602 : (Jvm.Cond.superclass "LettersOnStrike$Text" "java/lang/Object") ∈ lw_all := lw_g (lw_at lw_m2 205 rfl) rfl
theorem q603 : (Jvm.Cond.methodLink "LettersOnStrike$Tokens" (74 : Nat) ({ cls := "LettersOnStrike$Tokens", name := "next", desc := "()V" } : Jvm.MethodName)) ∈ lw_all := lw_g (lw_at lw_m2 206 rfl) rfl
theorem q604 : (Jvm.Cond.privateMethod ({ cls := "LettersOnStrike$Tokens", name := "next", desc := "()V" } : Jvm.MethodName)) ∈ lw_tbl := lw_at lw_m2 207 rfl
theorem q605 : (Jvm.Cond.instanceMethod ({ cls := "LettersOnStrike$Tokens", name := "next", desc := "()V" } : Jvm.MethodName)) ∈ lw_all := lw_g (lw_at lw_m2 208 rfl) rfl
theorem q606 : (Jvm.Cond.code ({ cls := "LettersOnStrike$Tokens", name := "next", desc := "()V" } : Jvm.MethodName) prog_14_method_4_code (3 : Nat) (Option.none : Option Jvm.ClassFile.FieldType)) ∈ lw_all := lw_g (lw_at lw_m2 209 rfl) rfl
theorem q607 : (Jvm.Cond.methodLink "LettersOnStrike$Tokens" (28 : Nat) ({ cls := "LettersOnStrike$Tokens", name := "isLetter", desc := "(I)Z" } : Jvm.MethodName)) ∈ lw_all := lw_g (lw_at lw_m2 210 rfl) rfl
theorem q608 : (Jvm.Cond.static ({ cls := "LettersOnStrike$Tokens", name := "isLetter", desc := "(I)Z" } : Jvm.MethodName)) ∈ lw_all := lw_g (lw_at lw_m2 211 rfl) rfl
theorem q609 : (Jvm.Cond.code ({ cls := "LettersOnStrike$Tokens", name := "isLetter", desc := "(I)Z" } : Jvm.MethodName) prog_14_method_2_code (1 : Nat) (Option.some Jvm.ClassFile.FieldType.boolean)) ∈ lw_all := lw_g (lw_at lw_m2 212 rfl) rfl
theorem q610 : (Jvm.Cond.fieldLink "LettersOnStrike$Tokens" (32 : Nat) "LettersOnStrike$Tokens" "WORDS" "[Ljava/lang/String;") ∈ lw_all := lw_g (lw_at lw_m2 213 rfl) rfl
theorem q611 : (Jvm.Cond.laysStatic "LettersOnStrike$Tokens" "WORDS" "[Ljava/lang/String;") ∈ lw_tbl := lw_at lw_m2 214 rfl
theorem q612 : (Jvm.Cond.methodLink "LettersOnStrike$Tokens" (36 : Nat) ({ cls := "LettersOnStrike$Tokens", name := "isWord", desc := "(Ljava/lang/String;)Z" } : Jvm.MethodName)) ∈ lw_all := lw_g (lw_at lw_m2 215 rfl) rfl
theorem q613 : (Jvm.Cond.privateMethod ({ cls := "LettersOnStrike$Tokens", name := "isWord", desc := "(Ljava/lang/String;)Z" } : Jvm.MethodName)) ∈ lw_tbl := lw_at lw_m2 216 rfl
theorem q614 : (Jvm.Cond.instanceMethod ({ cls := "LettersOnStrike$Tokens", name := "isWord", desc := "(Ljava/lang/String;)Z" } : Jvm.MethodName)) ∈ lw_all := lw_g (lw_at lw_m2 217 rfl) rfl
theorem q615 : (Jvm.Cond.code ({ cls := "LettersOnStrike$Tokens", name := "isWord", desc := "(Ljava/lang/String;)Z" } : Jvm.MethodName) prog_14_method_5_code (3 : Nat) (Option.some Jvm.ClassFile.FieldType.boolean)) ∈ lw_all := lw_g (lw_at lw_m2 218 rfl) rfl
theorem q616 : (Jvm.Cond.methodLink "LettersOnStrike$Tokens" (55 : Nat) ({ cls := "java/lang/String", name := "length", desc := "()I" } : Jvm.MethodName)) ∈ lw_all := lw_g (lw_at lw_m2 219 rfl) rfl
theorem q617 : (Jvm.Cond.instanceMethod ({ cls := "java/lang/String", name := "length", desc := "()I" } : Jvm.MethodName)) ∈ lw_all := lw_g (lw_at lw_m2 220 rfl) rfl
theorem q618 : (Jvm.Cond.selects "java/lang/String" ({ cls := "java/lang/String", name := "length", desc := "()I" } : Jvm.MethodName) ({ cls := "java/lang/String", name := "length", desc := "()I" } : Jvm.MethodName)) ∈ lw_all := lw_g (lw_at lw_m2 221 rfl) rfl
theorem q619 : (Jvm.Cond.code ({ cls := "java/lang/String", name := "length", desc := "()I" } : Jvm.MethodName) prog_31_method_54_code (1 : Nat) (Option.some Jvm.ClassFile.FieldType.int)) ∈ lw_all := lw_g (lw_at lw_m2 222 rfl) rfl
theorem q620 : (Jvm.Cond.methodLink "java/lang/String" (335 : Nat) ({ cls := "java/lang/String", name := "coder", desc := "()B" } : Jvm.MethodName)) ∈ lw_all := lw_g (lw_at lw_m2 223 rfl) rfl
theorem q621 : (Jvm.Cond.instanceMethod ({ cls := "java/lang/String", name := "coder", desc := "()B" } : Jvm.MethodName)) ∈ lw_all := lw_g (lw_at lw_m2 224 rfl) rfl
theorem q622 : (Jvm.Cond.selects "java/lang/String" ({ cls := "java/lang/String", name := "coder", desc := "()B" } : Jvm.MethodName) ({ cls := "java/lang/String", name := "coder", desc := "()B" } : Jvm.MethodName)) ∈ lw_all := lw_g (lw_at lw_m2 225 rfl) rfl
theorem q623 : (Jvm.Cond.code ({ cls := "java/lang/String", name := "coder", desc := "()B" } : Jvm.MethodName) prog_31_method_152_code (1 : Nat) (Option.some Jvm.ClassFile.FieldType.byte)) ∈ lw_all := lw_g (lw_at lw_m2 226 rfl) rfl
theorem q624 : (Jvm.Cond.fieldLink "java/lang/String" (38 : Nat) "java/lang/String" "COMPACT_STRINGS" "Z") ∈ lw_all := lw_g (lw_at lw_m2 227 rfl) rfl
theorem q625 : (Jvm.Cond.laysStatic "java/lang/String" "COMPACT_STRINGS" "Z") ∈ lw_tbl := lw_at lw_m2 228 rfl
theorem q626 : (Jvm.Cond.methodLink "LettersOnStrike$Tokens" (61 : Nat) ({ cls := "java/lang/String", name := "charAt", desc := "(I)C" } : Jvm.MethodName)) ∈ lw_all := lw_g (lw_at lw_m2 229 rfl) rfl
theorem q627 : (Jvm.Cond.instanceMethod ({ cls := "java/lang/String", name := "charAt", desc := "(I)C" } : Jvm.MethodName)) ∈ lw_all := lw_g (lw_at lw_m2 230 rfl) rfl
theorem q628 : (Jvm.Cond.selects "java/lang/String" ({ cls := "java/lang/String", name := "charAt", desc := "(I)C" } : Jvm.MethodName) ({ cls := "java/lang/String", name := "charAt", desc := "(I)C" } : Jvm.MethodName)) ∈ lw_all := lw_g (lw_at lw_m2 231 rfl) rfl
theorem q629 : (Jvm.Cond.code ({ cls := "java/lang/String", name := "charAt", desc := "(I)C" } : Jvm.MethodName) prog_31_method_56_code (2 : Nat) (Option.some Jvm.ClassFile.FieldType.char)) ∈ lw_all := lw_g (lw_at lw_m2 232 rfl) rfl
theorem q630 : (Jvm.Cond.methodLink "java/lang/String" (492 : Nat) ({ cls := "java/lang/String", name := "isLatin1", desc := "()Z" } : Jvm.MethodName)) ∈ lw_all := lw_g (lw_at lw_m2 233 rfl) rfl
theorem q631 : (Jvm.Cond.instanceMethod ({ cls := "java/lang/String", name := "isLatin1", desc := "()Z" } : Jvm.MethodName)) ∈ lw_all := lw_g (lw_at lw_m2 234 rfl) rfl
theorem q632 : (Jvm.Cond.selects "java/lang/String" ({ cls := "java/lang/String", name := "isLatin1", desc := "()Z" } : Jvm.MethodName) ({ cls := "java/lang/String", name := "isLatin1", desc := "()Z" } : Jvm.MethodName)) ∈ lw_all := lw_g (lw_at lw_m2 235 rfl) rfl
theorem q633 : (Jvm.Cond.code ({ cls := "java/lang/String", name := "isLatin1", desc := "()Z" } : Jvm.MethodName) prog_31_method_154_code (1 : Nat) (Option.some Jvm.ClassFile.FieldType.boolean)) ∈ lw_all := lw_g (lw_at lw_m2 236 rfl) rfl
theorem q634 : (Jvm.Cond.methodLink "java/lang/String" (495 : Nat) ({ cls := "java/lang/StringLatin1", name := "charAt", desc := "([BI)C" } : Jvm.MethodName)) ∈ lw_all := lw_g (lw_at lw_m2 237 rfl) rfl
theorem q635 : (Jvm.Cond.static ({ cls := "java/lang/StringLatin1", name := "charAt", desc := "([BI)C" } : Jvm.MethodName)) ∈ lw_all := lw_g (lw_at lw_m2 238 rfl) rfl
theorem q636 : (Jvm.Cond.code ({ cls := "java/lang/StringLatin1", name := "charAt", desc := "([BI)C" } : Jvm.MethodName) prog_32_method_2_code (2 : Nat) (Option.some Jvm.ClassFile.FieldType.char)) ∈ lw_all := lw_g (lw_at lw_m2 239 rfl) rfl
theorem q637 : (Jvm.Cond.methodLink "java/lang/StringLatin1" (9 : Nat) ({ cls := "java/lang/String", name := "checkIndex", desc := "(II)V" } : Jvm.MethodName)) ∈ lw_all := lw_g (lw_at lw_m3 0 rfl) rfl
theorem q638 : (Jvm.Cond.static ({ cls := "java/lang/String", name := "checkIndex", desc := "(II)V" } : Jvm.MethodName)) ∈ lw_all := lw_g (lw_at lw_m3 1 rfl) rfl
theorem q639 : (Jvm.Cond.code ({ cls := "java/lang/String", name := "checkIndex", desc := "(II)V" } : Jvm.MethodName) prog_31_method_155_code (2 : Nat) (Option.none : Option Jvm.ClassFile.FieldType)) ∈ lw_all := lw_g (lw_at lw_m3 2 rfl) rfl
theorem q640 : (Jvm.Cond.fieldLink "java/lang/String" (1053 : Nat) "jdk/internal/util/Preconditions" "SIOOBE_FORMATTER" "Ljava/util/function/BiFunction;") ∈ lw_all := lw_g (lw_at lw_m3 3 rfl) rfl
theorem q641 : (Jvm.Cond.laysStatic "jdk/internal/util/Preconditions" "SIOOBE_FORMATTER" "Ljava/util/function/BiFunction;") ∈ lw_tbl := lw_at lw_m3 4 rfl
theorem q642 : (Jvm.Cond.methodLink "java/lang/String" (1059 : Nat) ({ cls := "jdk/internal/util/Preconditions", name := "checkIndex", desc := "(IILjava/util/function/BiFunction;)I" } : Jvm.MethodName)) ∈ lw_all := lw_g (lw_at lw_m3 5 rfl) rfl
theorem q643 : (Jvm.Cond.static ({ cls := "jdk/internal/util/Preconditions", name := "checkIndex", desc := "(IILjava/util/function/BiFunction;)I" } : Jvm.MethodName)) ∈ lw_all := lw_g (lw_at lw_m3 6 rfl) rfl
theorem q644 : (Jvm.Cond.code ({ cls := "jdk/internal/util/Preconditions", name := "checkIndex", desc := "(IILjava/util/function/BiFunction;)I" } : Jvm.MethodName) prog_50_method_11_code (3 : Nat) (Option.some Jvm.ClassFile.FieldType.int)) ∈ lw_all := lw_g (lw_at lw_m3 7 rfl) rfl
theorem q645 : (Jvm.Cond.methodLink "java/lang/String" (498 : Nat) ({ cls := "java/lang/StringUTF16", name := "charAt", desc := "([BI)C" } : Jvm.MethodName)) ∈ lw_all := lw_g (lw_at lw_m3 8 rfl) rfl
theorem q646 : (Jvm.Cond.static ({ cls := "java/lang/StringUTF16", name := "charAt", desc := "([BI)C" } : Jvm.MethodName)) ∈ lw_all := lw_g (lw_at lw_m3 9 rfl) rfl
theorem q647 : (Jvm.Cond.code ({ cls := "java/lang/StringUTF16", name := "charAt", desc := "([BI)C" } : Jvm.MethodName) prog_33_method_83_code (2 : Nat) (Option.some Jvm.ClassFile.FieldType.char)) ∈ lw_all := lw_g (lw_at lw_m3 10 rfl) rfl
theorem q648 : (Jvm.Cond.methodLink "java/lang/StringUTF16" (67 : Nat) ({ cls := "java/lang/StringUTF16", name := "checkIndex", desc := "(I[B)V" } : Jvm.MethodName)) ∈ lw_all := lw_g (lw_at lw_m3 11 rfl) rfl
theorem q649 : (Jvm.Cond.static ({ cls := "java/lang/StringUTF16", name := "checkIndex", desc := "(I[B)V" } : Jvm.MethodName)) ∈ lw_all := lw_g (lw_at lw_m3 12 rfl) rfl
theorem q650 : (Jvm.Cond.code ({ cls := "java/lang/StringUTF16", name := "checkIndex", desc := "(I[B)V" } : Jvm.MethodName) prog_33_method_91_code (2 : Nat) (Option.none : Option Jvm.ClassFile.FieldType)) ∈ lw_all := lw_g (lw_at lw_m3 13 rfl) rfl
theorem q651 : (Jvm.Cond.methodLink "java/lang/StringUTF16" (48 : Nat) ({ cls := "java/lang/StringUTF16", name := "length", desc := "([B)I" } : Jvm.MethodName)) ∈ lw_all := lw_g (lw_at lw_m3 14 rfl) rfl
theorem q652 : (Jvm.Cond.static ({ cls := "java/lang/StringUTF16", name := "length", desc := "([B)I" } : Jvm.MethodName)) ∈ lw_all := lw_g (lw_at lw_m3 15 rfl) rfl
theorem q653 : (Jvm.Cond.code ({ cls := "java/lang/StringUTF16", name := "length", desc := "([B)I" } : Jvm.MethodName) prog_33_method_6_code (1 : Nat) (Option.some Jvm.ClassFile.FieldType.int)) ∈ lw_all := lw_g (lw_at lw_m3 16 rfl) rfl
theorem q654 : (Jvm.Cond.methodLink "java/lang/StringUTF16" (414 : Nat) ({ cls := "java/lang/String", name := "checkIndex", desc := "(II)V" } : Jvm.MethodName)) ∈ lw_all := lw_g (lw_at lw_m3 17 rfl) rfl
theorem q655 : (Jvm.Cond.methodLink "java/lang/StringUTF16" (71 : Nat) ({ cls := "java/lang/StringUTF16", name := "getChar", desc := "([BI)C" } : Jvm.MethodName)) ∈ lw_all := lw_g (lw_at lw_m3 18 rfl) rfl
theorem q656 : (Jvm.Cond.static ({ cls := "java/lang/StringUTF16", name := "getChar", desc := "([BI)C" } : Jvm.MethodName)) ∈ lw_all := lw_g (lw_at lw_m3 19 rfl) rfl
theorem q657 : (Jvm.Cond.code ({ cls := "java/lang/StringUTF16", name := "getChar", desc := "([BI)C" } : Jvm.MethodName) prog_33_method_5_code (2 : Nat) (Option.some Jvm.ClassFile.FieldType.char)) ∈ lw_all := lw_g (lw_at lw_m3 20 rfl) rfl
theorem q658 : (Jvm.Cond.fieldLink "java/lang/StringUTF16" (44 : Nat) "java/lang/StringUTF16" "$assertionsDisabled" "Z") ∈ lw_all := lw_g (lw_at lw_m3 21 rfl) rfl
theorem q659 : (Jvm.Cond.laysStatic "java/lang/StringUTF16" "$assertionsDisabled" "Z") ∈ lw_tbl := lw_at lw_m3 22 rfl
theorem q660 : (Jvm.Cond.fieldLink "java/lang/StringUTF16" (59 : Nat) "java/lang/StringUTF16" "HI_BYTE_SHIFT" "I") ∈ lw_all := lw_g (lw_at lw_m3 23 rfl) rfl
theorem q661 : (Jvm.Cond.laysStatic "java/lang/StringUTF16" "HI_BYTE_SHIFT" "I") ∈ lw_tbl := lw_at lw_m3 24 rfl
theorem q662 : (Jvm.Cond.fieldLink "java/lang/StringUTF16" (63 : Nat) "java/lang/StringUTF16" "LO_BYTE_SHIFT" "I") ∈ lw_all := lw_g (lw_at lw_m3 25 rfl) rfl
theorem q663 : (Jvm.Cond.laysStatic "java/lang/StringUTF16" "LO_BYTE_SHIFT" "I") ∈ lw_tbl := lw_at lw_m3 26 rfl
theorem q664 : (Jvm.Cond.methodLink "LettersOnStrike$Tokens" (40 : Nat) ({ cls := "LettersOnStrike$Tokens", name := "isDigit", desc := "(I)Z" } : Jvm.MethodName)) ∈ lw_all := lw_g (lw_at lw_m3 27 rfl) rfl
theorem q665 : (Jvm.Cond.static ({ cls := "LettersOnStrike$Tokens", name := "isDigit", desc := "(I)Z" } : Jvm.MethodName)) ∈ lw_all := lw_g (lw_at lw_m3 28 rfl) rfl
theorem q666 : (Jvm.Cond.code ({ cls := "LettersOnStrike$Tokens", name := "isDigit", desc := "(I)Z" } : Jvm.MethodName) prog_14_method_3_code (1 : Nat) (Option.some Jvm.ClassFile.FieldType.boolean)) ∈ lw_all := lw_g (lw_at lw_m3 29 rfl) rfl
theorem q667 : (Jvm.Cond.constant "LettersOnStrike$Tokens" (46 : Nat) (99999 : Int32)) ∈ lw_all := lw_g (lw_at lw_m3 30 rfl) rfl
theorem q668 : (Jvm.Cond.methodLink "LettersOnStrike$Tokens" (47 : Nat) ({ cls := "java/lang/Math", name := "min", desc := "(II)I" } : Jvm.MethodName)) ∈ lw_all := lw_g (lw_at lw_m3 31 rfl) rfl
theorem q669 : (Jvm.Cond.static ({ cls := "java/lang/Math", name := "min", desc := "(II)I" } : Jvm.MethodName)) ∈ lw_all := lw_g (lw_at lw_m3 32 rfl) rfl
theorem q670 : (Jvm.Cond.code ({ cls := "java/lang/Math", name := "min", desc := "(II)I" } : Jvm.MethodName) prog_28_method_69_code (2 : Nat) (Option.some Jvm.ClassFile.FieldType.int)) ∈ lw_all := lw_g (lw_at lw_m3 33 rfl) rfl
theorem q671 : (Jvm.Cond.stringRef "LettersOnStrike$Tokens" (53 : Nat) "<>=#+-*/(),;") ∈ lw_tbl := lw_at lw_m3 34 rfl
theorem q672 : (Jvm.Cond.methodLink "LettersOnStrike$Tokens" (70 : Nat) ({ cls := "LettersOnStrike$Tokens", name := "wrong", desc := "(I)LLettersOnStrike$Wrong;" } : Jvm.MethodName)) ∈ lw_all := lw_g (lw_at lw_m3 35 rfl) rfl
theorem q673 : (Jvm.Cond.privateMethod ({ cls := "LettersOnStrike$Tokens", name := "wrong", desc := "(I)LLettersOnStrike$Wrong;" } : Jvm.MethodName)) ∈ lw_tbl := lw_at lw_m3 36 rfl
theorem q674 : (Jvm.Cond.instanceMethod ({ cls := "LettersOnStrike$Tokens", name := "wrong", desc := "(I)LLettersOnStrike$Wrong;" } : Jvm.MethodName)) ∈ lw_all := lw_g (lw_at lw_m3 37 rfl) rfl
theorem q675 : (Jvm.Cond.code ({ cls := "LettersOnStrike$Tokens", name := "wrong", desc := "(I)LLettersOnStrike$Wrong;" } : Jvm.MethodName) prog_14_method_6_code (2 : Nat) (Option.some (Jvm.ClassFile.FieldType.object "LettersOnStrike$Wrong"))) ∈ lw_all := lw_g (lw_at lw_m3 38 rfl) rfl
theorem q676 : (Jvm.Cond.classLink "LettersOnStrike$Tokens" (65 : Nat) "LettersOnStrike$Wrong") ∈ lw_all := lw_g (lw_at lw_m3 39 rfl) rfl
theorem q677 : (Jvm.Cond.instantiable "LettersOnStrike$Wrong" (8 : Nat)) ∈ lw_all := lw_g (lw_at lw_m3 40 rfl) rfl
theorem q678 : (Jvm.Cond.castable "LettersOnStrike$Wrong" "LettersOnStrike$Wrong") ∈ lw_tbl := lw_at lw_m3 41 rfl
theorem q679 : (Jvm.Cond.declares ({ cls := "java/lang/Exception", name := "<init>", desc := "()V" } : Jvm.MethodName)) ∈ lw_tbl := lw_at lw_m3 42 rfl
theorem q680 : (Jvm.Cond.declares ({ cls := "java/lang/Exception", name := "<init>", desc := "(Ljava/lang/String;)V" } : Jvm.MethodName)) ∈ lw_tbl := lw_at lw_m3 43 rfl
theorem q681 : (Jvm.Cond.declares ({ cls := "java/lang/Throwable", name := "<init>", desc := "()V" } : Jvm.MethodName)) ∈ lw_tbl := lw_at lw_m3 44 rfl
theorem q682 : (Jvm.Cond.declares ({ cls := "java/lang/Throwable", name := "<init>", desc := "(Ljava/lang/String;)V" } : Jvm.MethodName)) ∈ lw_tbl := lw_at lw_m3 45 rfl
theorem q683 : (Jvm.Cond.selects "LettersOnStrike$Wrong" ({ cls := "java/lang/Throwable", name := "fillInStackTrace", desc := "(I)Ljava/lang/Throwable;" } : Jvm.MethodName) ({ cls := "java/lang/Throwable", name := "fillInStackTrace", desc := "(I)Ljava/lang/Throwable;" } : Jvm.MethodName)) ∈ lw_all := lw_g (lw_at lw_m3 46 rfl) rfl
theorem q684 : (Jvm.Cond.selects "LettersOnStrike$Wrong" ({ cls := "java/lang/Throwable", name := "fillInStackTrace", desc := "()Ljava/lang/Throwable;" } : Jvm.MethodName) ({ cls := "java/lang/Throwable", name := "fillInStackTrace", desc := "()Ljava/lang/Throwable;" } : Jvm.MethodName)) ∈ lw_all := lw_g (lw_at lw_m3 47 rfl) rfl
theorem q685 : (Jvm.Cond.lays "LettersOnStrike$Wrong" "java/lang/Throwable" "cause" "Ljava/lang/Throwable;") ∈ lw_all := lw_g (lw_at lw_m3 48 rfl) rfl
theorem q686 : (Jvm.Cond.lays "java/lang/Throwable" "java/lang/Throwable" "cause" "Ljava/lang/Throwable;") ∈ lw_all := lw_g (lw_at lw_m3 49 rfl) rfl
theorem q687 : (Jvm.Cond.lays "LettersOnStrike$Wrong" "java/lang/Throwable" "stackTrace" "[Ljava/lang/StackTraceElement;") ∈ lw_all := lw_g (lw_at lw_m3 50 rfl) rfl
theorem q688 : (Jvm.Cond.lays "java/lang/Throwable" "java/lang/Throwable" "stackTrace" "[Ljava/lang/StackTraceElement;") ∈ lw_all := lw_g (lw_at lw_m3 51 rfl) rfl
theorem q689 : (Jvm.Cond.lays "LettersOnStrike$Wrong" "java/lang/Throwable" "suppressedExceptions" "Ljava/util/List;") ∈ lw_all := lw_g (lw_at lw_m3 52 rfl) rfl
theorem q690 : (Jvm.Cond.lays "java/lang/Throwable" "java/lang/Throwable" "suppressedExceptions" "Ljava/util/List;") ∈ lw_all := lw_g (lw_at lw_m3 53 rfl) rfl
theorem q691 : (Jvm.Cond.lays "LettersOnStrike$Wrong" "java/lang/Throwable" "detailMessage" "Ljava/lang/String;") ∈ lw_all := lw_g (lw_at lw_m3 54 rfl) rfl
theorem q692 : (Jvm.Cond.lays "java/lang/Throwable" "java/lang/Throwable" "detailMessage" "Ljava/lang/String;") ∈ lw_all := lw_g (lw_at lw_m3 55 rfl) rfl
theorem q693 : (Jvm.Cond.lays "LettersOnStrike$Wrong" "java/lang/Throwable" "backtrace" "Ljava/lang/Object;") ∈ lw_all := lw_g (lw_at lw_m3 56 rfl) rfl
theorem q694 : (Jvm.Cond.lays "java/lang/Throwable" "java/lang/Throwable" "backtrace" "Ljava/lang/Object;") ∈ lw_all := lw_g (lw_at lw_m3 57 rfl) rfl
theorem q695 : (Jvm.Cond.fieldLink "java/lang/Throwable" (198 : Nat) "java/lang/Throwable" "backtrace" "Ljava/lang/Object;") ∈ lw_all := lw_g (lw_at lw_m3 58 rfl) rfl
theorem q696 : (Jvm.Cond.superclass "java/lang/Throwable" "java/lang/Object") ∈ lw_all := lw_g (lw_at lw_m3 59 rfl) rfl
theorem q697 : (Jvm.Cond.instanceMethod ({ cls := "java/lang/Throwable", name := "<init>", desc := "()V" } : Jvm.MethodName)) ∈ lw_all := lw_g (lw_at lw_m3 60 rfl) rfl
theorem q698 : (Jvm.Cond.code ({ cls := "java/lang/Throwable", name := "<init>", desc := "()V" } : Jvm.MethodName) prog_35_method_1_code (1 : Nat) (Option.none : Option Jvm.ClassFile.FieldType)) ∈ lw_all := lw_g (lw_at lw_m3 61 rfl) rfl
theorem q699 : (Jvm.Cond.methodLink "java/lang/Throwable" (1 : Nat) ({ cls := "java/lang/Object", name := "<init>", desc := "()V" } : Jvm.MethodName)) ∈ lw_all := lw_g (lw_at lw_m3 62 rfl) rfl
theorem q700 : (Jvm.Cond.fieldLink "java/lang/Throwable" (13 : Nat) "java/lang/Throwable" "UNASSIGNED_STACK" "[Ljava/lang/StackTraceElement;") ∈ lw_all := lw_g (lw_at lw_m3 63 rfl) rfl
theorem q701 : (Jvm.Cond.laysStatic "java/lang/Throwable" "UNASSIGNED_STACK" "[Ljava/lang/StackTraceElement;") ∈ lw_tbl := lw_at lw_m3 64 rfl
theorem q702 : (Jvm.Cond.fieldLink "java/lang/Throwable" (20 : Nat) "java/lang/Throwable" "SUPPRESSED_SENTINEL" "Ljava/util/List;") ∈ lw_all := lw_g (lw_at lw_m3 65 rfl) rfl
theorem q703 : (Jvm.Cond.laysStatic "java/lang/Throwable" "SUPPRESSED_SENTINEL" "Ljava/util/List;") ∈ lw_tbl := lw_at lw_m3 66 rfl
theorem q704 : (Jvm.Cond.methodLink "java/lang/Throwable" (27 : Nat) ({ cls := "java/lang/Throwable", name := "fillInStackTrace", desc := "()Ljava/lang/Throwable;" } : Jvm.MethodName)) ∈ lw_all := lw_g (lw_at lw_m3 67 rfl) rfl
theorem q705 : (Jvm.Cond.instanceMethod ({ cls := "java/lang/Throwable", name := "fillInStackTrace", desc := "()Ljava/lang/Throwable;" } : Jvm.MethodName)) ∈ lw_all := lw_g (lw_at lw_m3 68 rfl) rfl
theorem q706 : (Jvm.Cond.sameMethod "java/lang/Throwable" "java/lang/Throwable" "fillInStackTrace" "()Ljava/lang/Throwable;") ∈ lw_all := lw_g (lw_at lw_m3 69 rfl) rfl
theorem q707 : (Jvm.Cond.codeSync ({ cls := "java/lang/Throwable", name := "fillInStackTrace", desc := "()Ljava/lang/Throwable;" } : Jvm.MethodName) prog_35_method_18_code (1 : Nat) (Option.some (Jvm.ClassFile.FieldType.object "java/lang/Throwable"))) ∈ lw_all := lw_g (lw_at lw_m3 70 rfl) rfl
theorem q708 : (Jvm.Cond.methodLink "java/lang/Throwable" (202 : Nat) ({ cls := "java/lang/Throwable", name := "fillInStackTrace", desc := "(I)Ljava/lang/Throwable;" } : Jvm.MethodName)) ∈ lw_all := lw_g (lw_at lw_m3 71 rfl) rfl
theorem q709 : (Jvm.Cond.privateMethod ({ cls := "java/lang/Throwable", name := "fillInStackTrace", desc := "(I)Ljava/lang/Throwable;" } : Jvm.MethodName)) ∈ lw_tbl := lw_at lw_m3 72 rfl
theorem q710 : (Jvm.Cond.instanceMethod ({ cls := "java/lang/Throwable", name := "fillInStackTrace", desc := "(I)Ljava/lang/Throwable;" } : Jvm.MethodName)) ∈ lw_all := lw_g (lw_at lw_m3 73 rfl) rfl
theorem q711 : (Jvm.Cond.instantiable "java/lang/Throwable" (6 : Nat)) ∈ lw_all := lw_g (lw_at lw_m3 74 rfl) rfl
theorem q712 : (Jvm.Cond.native ({ cls := "java/lang/Throwable", name := "fillInStackTrace", desc := "(I)Ljava/lang/Throwable;" } : Jvm.MethodName)) ∈ lw_all := lw_g (lw_at lw_m3 75 rfl) rfl
theorem q713 : (Jvm.Cond.methodLink "LettersOnStrike$Tokens" (67 : Nat) ({ cls := "LettersOnStrike$Wrong", name := "<init>", desc := "(II)V" } : Jvm.MethodName)) ∈ lw_all := lw_g (lw_at lw_m3 76 rfl) rfl
theorem q714 : (Jvm.Cond.instanceMethod ({ cls := "LettersOnStrike$Wrong", name := "<init>", desc := "(II)V" } : Jvm.MethodName)) ∈ lw_all := lw_g (lw_at lw_m3 77 rfl) rfl
theorem q715 : (Jvm.Cond.code ({ cls := "LettersOnStrike$Wrong", name := "<init>", desc := "(II)V" } : Jvm.MethodName) prog_16_method_1_code (3 : Nat) (Option.none : Option Jvm.ClassFile.FieldType)) ∈ lw_all := lw_g (lw_at lw_m3 78 rfl) rfl
theorem q716 : (Jvm.Cond.methodLink "LettersOnStrike$Wrong" (1 : Nat) ({ cls := "java/lang/Exception", name := "<init>", desc := "()V" } : Jvm.MethodName)) ∈ lw_all := lw_g (lw_at lw_m3 79 rfl) rfl
theorem q717 : (Jvm.Cond.instanceMethod ({ cls := "java/lang/Exception", name := "<init>", desc := "()V" } : Jvm.MethodName)) ∈ lw_all := lw_g (lw_at lw_m3 80 rfl) rfl
theorem q718 : (Jvm.Cond.code ({ cls := "java/lang/Exception", name := "<init>", desc := "()V" } : Jvm.MethodName) prog_23_method_1_code (1 : Nat) (Option.none : Option Jvm.ClassFile.FieldType)) ∈ lw_all := lw_g (lw_at lw_m3 81 rfl) rfl
theorem q719 : (Jvm.Cond.methodLink "java/lang/Exception" (1 : Nat) ({ cls := "java/lang/Throwable", name := "<init>", desc := "()V" } : Jvm.MethodName)) ∈ lw_all := lw_g (lw_at lw_m3 82 rfl) rfl
theorem q720 : (Jvm.Cond.fieldLink "LettersOnStrike$Wrong" (7 : Nat) "LettersOnStrike$Wrong" "fault" "I") ∈ lw_all := lw_g (lw_at lw_m3 83 rfl) rfl
theorem q721 : (Jvm.Cond.fieldLinkNest "LettersOnStrike" (138 : Nat) "LettersOnStrike$Wrong" "fault" "I" "LettersOnStrike") ∈ lw_tbl := lw_at lw_m3 84 rfl
theorem q722 : (Jvm.Cond.fieldLink "LettersOnStrike$Wrong" (13 : Nat) "LettersOnStrike$Wrong" "place" "I") ∈ lw_all := lw_g (lw_at lw_m3 85 rfl) rfl
theorem q723 : (Jvm.Cond.fieldLinkNest "LettersOnStrike" (139 : Nat) "LettersOnStrike$Wrong" "place" "I" "LettersOnStrike") ∈ lw_tbl := lw_at lw_m3 86 rfl
theorem q724 : (Jvm.Cond.fieldLink "java/lang/Throwable" (198 : Nat) "java/lang/Throwable" "backtrace" "Ljava/lang/Object;") ∈ lw_all := lw_g (lw_at lw_m3 87 rfl) rfl
theorem q725 : (Jvm.Cond.fieldLink "java/lang/Throwable" (7 : Nat) "java/lang/Throwable" "cause" "Ljava/lang/Throwable;") ∈ lw_all := lw_g (lw_at lw_m3 88 rfl) rfl
theorem q726 : (Jvm.Cond.fieldLink "java/lang/Throwable" (17 : Nat) "java/lang/Throwable" "stackTrace" "[Ljava/lang/StackTraceElement;") ∈ lw_all := lw_g (lw_at lw_m3 89 rfl) rfl
theorem q727 : (Jvm.Cond.fieldLink "java/lang/Throwable" (24 : Nat) "java/lang/Throwable" "suppressedExceptions" "Ljava/util/List;") ∈ lw_all := lw_g (lw_at lw_m3 90 rfl) rfl
theorem q728 : (Jvm.Cond.laysFinal "LettersOnStrike$Wrong" "LettersOnStrike$Wrong" "fault" "I") ∈ lw_all := lw_g (lw_at lw_m3 91 rfl) rfl
theorem q729 : (Jvm.Cond.soleField "LettersOnStrike$Wrong" "fault") ∈ lw_all := lw_g (lw_at lw_m3 92 rfl) rfl
theorem q730 : (Jvm.Cond.laysFinal "LettersOnStrike$Wrong" "LettersOnStrike$Wrong" "place" "I") ∈ lw_all := lw_g (lw_at lw_m3 93 rfl) rfl
theorem q731 : (Jvm.Cond.soleField "LettersOnStrike$Wrong" "place") ∈ lw_all := lw_g (lw_at lw_m3 94 rfl) rfl
theorem q732 : (Jvm.Cond.soleField "java/lang/Throwable" "backtrace") ∈ lw_all := lw_g (lw_at lw_m3 95 rfl) rfl
theorem q733 : (Jvm.Cond.soleField "java/lang/Throwable" "detailMessage") ∈ lw_all := lw_g (lw_at lw_m3 96 rfl) rfl
theorem q734 : (Jvm.Cond.soleField "java/lang/Throwable" "cause") ∈ lw_all := lw_g (lw_at lw_m3 97 rfl) rfl
theorem q735 : (Jvm.Cond.soleField "java/lang/Throwable" "stackTrace") ∈ lw_all := lw_g (lw_at lw_m3 98 rfl) rfl
theorem q736 : (Jvm.Cond.lays "LettersOnStrike$Wrong" "java/lang/Throwable" "depth" "I") ∈ lw_all := lw_g (lw_at lw_m3 99 rfl) rfl
theorem q737 : (Jvm.Cond.soleField "java/lang/Throwable" "depth") ∈ lw_all := lw_g (lw_at lw_m3 100 rfl) rfl
theorem q738 : (Jvm.Cond.soleField "java/lang/Throwable" "suppressedExceptions") ∈ lw_all := lw_g (lw_at lw_m3 101 rfl) rfl
theorem q739 : (Jvm.Cond.superclass "LettersOnStrike$Wrong" "java/lang/Exception") ∈ lw_all := lw_g (lw_at lw_m3 102 rfl) rfl
theorem q740 : (Jvm.Cond.methodLink "LettersOnStrike$Tokens" (103 : Nat) ({ cls := "LettersOnStrike$Tokens", name := "clause", desc := "(LLettersOnStrike$Text;)V" } : Jvm.MethodName)) ∈ lw_all := lw_g (lw_at lw_m3 103 rfl) rfl
theorem q741 : (Jvm.Cond.privateMethod ({ cls := "LettersOnStrike$Tokens", name := "clause", desc := "(LLettersOnStrike$Text;)V" } : Jvm.MethodName)) ∈ lw_tbl := lw_at lw_m3 104 rfl
theorem q742 : (Jvm.Cond.instanceMethod ({ cls := "LettersOnStrike$Tokens", name := "clause", desc := "(LLettersOnStrike$Text;)V" } : Jvm.MethodName)) ∈ lw_all := lw_g (lw_at lw_m3 105 rfl) rfl
theorem q743 : (Jvm.Cond.code ({ cls := "LettersOnStrike$Tokens", name := "clause", desc := "(LLettersOnStrike$Text;)V" } : Jvm.MethodName) prog_14_method_11_code (2 : Nat) (Option.none : Option Jvm.ClassFile.FieldType)) ∈ lw_all := lw_g (lw_at lw_m3 106 rfl) rfl
theorem q744 : (Jvm.Cond.methodLink "LettersOnStrike$Tokens" (111 : Nat) ({ cls := "LettersOnStrike$Tokens", name := "either", desc := "()LLettersOnStrike$Asked;" } : Jvm.MethodName)) ∈ lw_all := lw_g (lw_at lw_m3 107 rfl) rfl
theorem q745 : (Jvm.Cond.privateMethod ({ cls := "LettersOnStrike$Tokens", name := "either", desc := "()LLettersOnStrike$Asked;" } : Jvm.MethodName)) ∈ lw_tbl := lw_at lw_m3 108 rfl
theorem q746 : (Jvm.Cond.instanceMethod ({ cls := "LettersOnStrike$Tokens", name := "either", desc := "()LLettersOnStrike$Asked;" } : Jvm.MethodName)) ∈ lw_all := lw_g (lw_at lw_m3 109 rfl) rfl
theorem q747 : (Jvm.Cond.code ({ cls := "LettersOnStrike$Tokens", name := "either", desc := "()LLettersOnStrike$Asked;" } : Jvm.MethodName) prog_14_method_17_code (2 : Nat) (Option.some (Jvm.ClassFile.FieldType.object "LettersOnStrike$Asked"))) ∈ lw_all := lw_g (lw_at lw_m3 110 rfl) rfl
theorem q748 : (Jvm.Cond.classLink "LettersOnStrike$Tokens" (128 : Nat) "java/util/ArrayList") ∈ lw_all := lw_g (lw_at lw_m3 111 rfl) rfl
theorem q749 : (Jvm.Cond.methodLink "LettersOnStrike$Tokens" (160 : Nat) ({ cls := "java/util/ArrayList", name := "<init>", desc := "()V" } : Jvm.MethodName)) ∈ lw_all := lw_g (lw_at lw_m3 112 rfl) rfl
theorem q750 : (Jvm.Cond.methodLink "LettersOnStrike$Tokens" (161 : Nat) ({ cls := "LettersOnStrike$Tokens", name := "both", desc := "()LLettersOnStrike$Asked;" } : Jvm.MethodName)) ∈ lw_all := lw_g (lw_at lw_m3 113 rfl) rfl
theorem q751 : (Jvm.Cond.privateMethod ({ cls := "LettersOnStrike$Tokens", name := "both", desc := "()LLettersOnStrike$Asked;" } : Jvm.MethodName)) ∈ lw_tbl := lw_at lw_m3 114 rfl
theorem q752 : (Jvm.Cond.instanceMethod ({ cls := "LettersOnStrike$Tokens", name := "both", desc := "()LLettersOnStrike$Asked;" } : Jvm.MethodName)) ∈ lw_all := lw_g (lw_at lw_m3 115 rfl) rfl
theorem q753 : (Jvm.Cond.code ({ cls := "LettersOnStrike$Tokens", name := "both", desc := "()LLettersOnStrike$Asked;" } : Jvm.MethodName) prog_14_method_18_code (2 : Nat) (Option.some (Jvm.ClassFile.FieldType.object "LettersOnStrike$Asked"))) ∈ lw_all := lw_g (lw_at lw_m3 116 rfl) rfl
theorem q754 : (Jvm.Cond.methodLink "LettersOnStrike$Tokens" (177 : Nat) ({ cls := "LettersOnStrike$Tokens", name := "ask", desc := "()LLettersOnStrike$Asked;" } : Jvm.MethodName)) ∈ lw_all := lw_g (lw_at lw_m3 117 rfl) rfl
theorem q755 : (Jvm.Cond.privateMethod ({ cls := "LettersOnStrike$Tokens", name := "ask", desc := "()LLettersOnStrike$Asked;" } : Jvm.MethodName)) ∈ lw_tbl := lw_at lw_m3 118 rfl
theorem q756 : (Jvm.Cond.instanceMethod ({ cls := "LettersOnStrike$Tokens", name := "ask", desc := "()LLettersOnStrike$Asked;" } : Jvm.MethodName)) ∈ lw_all := lw_g (lw_at lw_m3 119 rfl) rfl
theorem q757 : (Jvm.Cond.code ({ cls := "LettersOnStrike$Tokens", name := "ask", desc := "()LLettersOnStrike$Asked;" } : Jvm.MethodName) prog_14_method_19_code (3 : Nat) (Option.some (Jvm.ClassFile.FieldType.object "LettersOnStrike$Asked"))) ∈ lw_all := lw_g (lw_at lw_m3 120 rfl) rfl
theorem q758 : (Jvm.Cond.methodLink "LettersOnStrike$Tokens" (180 : Nat) ({ cls := "LettersOnStrike$Tokens", name := "opens", desc := "()V" } : Jvm.MethodName)) ∈ lw_all := lw_g (lw_at lw_m3 121 rfl) rfl
theorem q759 : (Jvm.Cond.privateMethod ({ cls := "LettersOnStrike$Tokens", name := "opens", desc := "()V" } : Jvm.MethodName)) ∈ lw_tbl := lw_at lw_m3 122 rfl
theorem q760 : (Jvm.Cond.instanceMethod ({ cls := "LettersOnStrike$Tokens", name := "opens", desc := "()V" } : Jvm.MethodName)) ∈ lw_all := lw_g (lw_at lw_m3 123 rfl) rfl
theorem q761 : (Jvm.Cond.code ({ cls := "LettersOnStrike$Tokens", name := "opens", desc := "()V" } : Jvm.MethodName) prog_14_method_9_code (1 : Nat) (Option.none : Option Jvm.ClassFile.FieldType)) ∈ lw_all := lw_g (lw_at lw_m3 124 rfl) rfl
theorem q762 : (Jvm.Cond.classLink "LettersOnStrike$Tokens" (183 : Nat) "LettersOnStrike$Not") ∈ lw_all := lw_g (lw_at lw_m3 125 rfl) rfl
theorem q763 : (Jvm.Cond.instantiable "LettersOnStrike$Not" (1 : Nat)) ∈ lw_all := lw_g (lw_at lw_m3 126 rfl) rfl
theorem q764 : (Jvm.Cond.methodLinkNest "LettersOnStrike$Tokens" (185 : Nat) ({ cls := "LettersOnStrike$Not", name := "<init>", desc := "(LLettersOnStrike$Asked;)V" } : Jvm.MethodName) "LettersOnStrike") ∈ lw_tbl := lw_at lw_m3 127 rfl
theorem q765 : (Jvm.Cond.instanceMethod ({ cls := "LettersOnStrike$Not", name := "<init>", desc := "(LLettersOnStrike$Asked;)V" } : Jvm.MethodName)) ∈ lw_all := lw_g (lw_at lw_m3 128 rfl) rfl
theorem q766 : (Jvm.Cond.code ({ cls := "LettersOnStrike$Not", name := "<init>", desc := "(LLettersOnStrike$Asked;)V" } : Jvm.MethodName) prog_9_method_1_code (2 : Nat) (Option.none : Option Jvm.ClassFile.FieldType)) ∈ lw_all := lw_g (lw_at lw_m3 129 rfl) rfl
theorem q767 : (Jvm.Cond.methodLink "LettersOnStrike$Not" (1 : Nat) ({ cls := "java/lang/Record", name := "<init>", desc := "()V" } : Jvm.MethodName)) ∈ lw_all := lw_g (lw_at lw_m3 130 rfl) rfl
theorem q768 : (Jvm.Cond.fieldLink "LettersOnStrike$Not" (7 : Nat) "LettersOnStrike$Not" "x" "LLettersOnStrike$Asked;") ∈ lw_all := lw_g (lw_at lw_m3 131 rfl) rfl
theorem q769 : (Jvm.Cond.laysFinal "LettersOnStrike$Not" "LettersOnStrike$Not" "x" "LLettersOnStrike$Asked;") ∈ lw_all := lw_g (lw_at lw_m3 132 rfl) rfl
theorem q770 : (Jvm.Cond.soleField "LettersOnStrike$Not" "x") ∈ lw_all := lw_g (lw_at lw_m3 133 rfl) rfl
theorem q771 : (Jvm.Cond.superclass "LettersOnStrike$Not" "java/lang/Record") ∈ lw_all := lw_g (lw_at lw_m3 134 rfl) rfl
theorem q772 : (Jvm.Cond.methodLink "LettersOnStrike$Tokens" (115 : Nat) ({ cls := "LettersOnStrike$Tokens", name := "sum", desc := "()LLettersOnStrike$Sum;" } : Jvm.MethodName)) ∈ lw_all := lw_g (lw_at lw_m3 135 rfl) rfl
theorem q773 : (Jvm.Cond.privateMethod ({ cls := "LettersOnStrike$Tokens", name := "sum", desc := "()LLettersOnStrike$Sum;" } : Jvm.MethodName)) ∈ lw_tbl := lw_at lw_m3 136 rfl
theorem q774 : (Jvm.Cond.instanceMethod ({ cls := "LettersOnStrike$Tokens", name := "sum", desc := "()LLettersOnStrike$Sum;" } : Jvm.MethodName)) ∈ lw_all := lw_g (lw_at lw_m3 137 rfl) rfl
theorem q775 : (Jvm.Cond.code ({ cls := "LettersOnStrike$Tokens", name := "sum", desc := "()LLettersOnStrike$Sum;" } : Jvm.MethodName) prog_14_method_20_code (3 : Nat) (Option.some (Jvm.ClassFile.FieldType.object "LettersOnStrike$Sum"))) ∈ lw_all := lw_g (lw_at lw_m3 138 rfl) rfl
theorem q776 : (Jvm.Cond.classLink "LettersOnStrike$Tokens" (193 : Nat) "LettersOnStrike$Chain") ∈ lw_all := lw_g (lw_at lw_m3 139 rfl) rfl
theorem q777 : (Jvm.Cond.instantiable "LettersOnStrike$Chain" (3 : Nat)) ∈ lw_all := lw_g (lw_at lw_m3 140 rfl) rfl
theorem q778 : (Jvm.Cond.methodLink "LettersOnStrike$Tokens" (195 : Nat) ({ cls := "LettersOnStrike$Tokens", name := "product", desc := "()LLettersOnStrike$Sum;" } : Jvm.MethodName)) ∈ lw_all := lw_g (lw_at lw_m3 141 rfl) rfl
theorem q779 : (Jvm.Cond.privateMethod ({ cls := "LettersOnStrike$Tokens", name := "product", desc := "()LLettersOnStrike$Sum;" } : Jvm.MethodName)) ∈ lw_tbl := lw_at lw_m3 142 rfl
theorem q780 : (Jvm.Cond.instanceMethod ({ cls := "LettersOnStrike$Tokens", name := "product", desc := "()LLettersOnStrike$Sum;" } : Jvm.MethodName)) ∈ lw_all := lw_g (lw_at lw_m3 143 rfl) rfl
theorem q781 : (Jvm.Cond.code ({ cls := "LettersOnStrike$Tokens", name := "product", desc := "()LLettersOnStrike$Sum;" } : Jvm.MethodName) prog_14_method_21_code (3 : Nat) (Option.some (Jvm.ClassFile.FieldType.object "LettersOnStrike$Sum"))) ∈ lw_all := lw_g (lw_at lw_m3 144 rfl) rfl
theorem q782 : (Jvm.Cond.methodLink "LettersOnStrike$Tokens" (207 : Nat) ({ cls := "LettersOnStrike$Tokens", name := "one", desc := "()LLettersOnStrike$Sum;" } : Jvm.MethodName)) ∈ lw_all := lw_g (lw_at lw_m3 145 rfl) rfl
theorem q783 : (Jvm.Cond.privateMethod ({ cls := "LettersOnStrike$Tokens", name := "one", desc := "()LLettersOnStrike$Sum;" } : Jvm.MethodName)) ∈ lw_tbl := lw_at lw_m3 146 rfl
theorem q784 : (Jvm.Cond.instanceMethod ({ cls := "LettersOnStrike$Tokens", name := "one", desc := "()LLettersOnStrike$Sum;" } : Jvm.MethodName)) ∈ lw_all := lw_g (lw_at lw_m3 147 rfl) rfl
theorem q785 : (Jvm.Cond.code ({ cls := "LettersOnStrike$Tokens", name := "one", desc := "()LLettersOnStrike$Sum;" } : Jvm.MethodName) prog_14_method_23_code (2 : Nat) (Option.some (Jvm.ClassFile.FieldType.object "LettersOnStrike$Sum"))) ∈ lw_all := lw_g (lw_at lw_m3 148 rfl) rfl
theorem q786 : (Jvm.Cond.classLink "LettersOnStrike$Tokens" (210 : Nat) "LettersOnStrike$Plain") ∈ lw_all := lw_g (lw_at lw_m3 149 rfl) rfl
theorem q787 : (Jvm.Cond.instantiable "LettersOnStrike$Plain" (1 : Nat)) ∈ lw_all := lw_g (lw_at lw_m3 150 rfl) rfl
theorem q788 : (Jvm.Cond.methodLink "LettersOnStrike$Tokens" (133 : Nat) ({ cls := "LettersOnStrike$Tokens", name := "number", desc := "(II)I" } : Jvm.MethodName)) ∈ lw_all := lw_g (lw_at lw_m3 151 rfl) rfl
theorem q789 : (Jvm.Cond.privateMethod ({ cls := "LettersOnStrike$Tokens", name := "number", desc := "(II)I" } : Jvm.MethodName)) ∈ lw_tbl := lw_at lw_m3 152 rfl
theorem q790 : (Jvm.Cond.instanceMethod ({ cls := "LettersOnStrike$Tokens", name := "number", desc := "(II)I" } : Jvm.MethodName)) ∈ lw_all := lw_g (lw_at lw_m3 153 rfl) rfl
theorem q791 : (Jvm.Cond.code ({ cls := "LettersOnStrike$Tokens", name := "number", desc := "(II)I" } : Jvm.MethodName) prog_14_method_8_code (4 : Nat) (Option.some Jvm.ClassFile.FieldType.int)) ∈ lw_all := lw_g (lw_at lw_m3 154 rfl) rfl
theorem q792 : (Jvm.Cond.methodLinkNest "LettersOnStrike$Tokens" (212 : Nat) ({ cls := "LettersOnStrike$Plain", name := "<init>", desc := "(I)V" } : Jvm.MethodName) "LettersOnStrike") ∈ lw_tbl := lw_at lw_m3 155 rfl
theorem q793 : (Jvm.Cond.instanceMethod ({ cls := "LettersOnStrike$Plain", name := "<init>", desc := "(I)V" } : Jvm.MethodName)) ∈ lw_all := lw_g (lw_at lw_m3 156 rfl) rfl
theorem q794 : (Jvm.Cond.code ({ cls := "LettersOnStrike$Plain", name := "<init>", desc := "(I)V" } : Jvm.MethodName) prog_10_method_1_code (2 : Nat) (Option.none : Option Jvm.ClassFile.FieldType)) ∈ lw_all := lw_g (lw_at lw_m3 157 rfl) rfl
theorem q795 : (Jvm.Cond.methodLink "LettersOnStrike$Plain" (1 : Nat) ({ cls := "java/lang/Record", name := "<init>", desc := "()V" } : Jvm.MethodName)) ∈ lw_all := lw_g (lw_at lw_m3 158 rfl) rfl
theorem q796 : (Jvm.Cond.fieldLink "LettersOnStrike$Plain" (7 : Nat) "LettersOnStrike$Plain" "n" "I") ∈ lw_all := lw_g (lw_at lw_m3 159 rfl) rfl
theorem q797 : (Jvm.Cond.laysFinal "LettersOnStrike$Plain" "LettersOnStrike$Plain" "n" "I") ∈ lw_all := lw_g (lw_at lw_m3 160 rfl) rfl
theorem q798 : (Jvm.Cond.soleField "LettersOnStrike$Plain" "n") ∈ lw_all := lw_g (lw_at lw_m3 161 rfl) rfl
theorem q799 : (Jvm.Cond.superclass "LettersOnStrike$Plain" "java/lang/Record") ∈ lw_all := lw_g (lw_at lw_m3 162 rfl) rfl
theorem q800 : (Jvm.Cond.methodLink "LettersOnStrike$Tokens" (214 : Nat) ({ cls := "LettersOnStrike$Tokens", name := "mayName", desc := "(I)Z" } : Jvm.MethodName)) ∈ lw_all := lw_g (lw_at lw_m3 163 rfl) rfl
theorem q801 : (Jvm.Cond.privateMethod ({ cls := "LettersOnStrike$Tokens", name := "mayName", desc := "(I)Z" } : Jvm.MethodName)) ∈ lw_tbl := lw_at lw_m3 164 rfl
theorem q802 : (Jvm.Cond.instanceMethod ({ cls := "LettersOnStrike$Tokens", name := "mayName", desc := "(I)Z" } : Jvm.MethodName)) ∈ lw_all := lw_g (lw_at lw_m3 165 rfl) rfl
theorem q803 : (Jvm.Cond.code ({ cls := "LettersOnStrike$Tokens", name := "mayName", desc := "(I)Z" } : Jvm.MethodName) prog_14_method_22_code (2 : Nat) (Option.some Jvm.ClassFile.FieldType.boolean)) ∈ lw_all := lw_g (lw_at lw_m3 166 rfl) rfl
theorem q804 : (Jvm.Cond.classLink "LettersOnStrike$Tokens" (217 : Nat) "LettersOnStrike$Name") ∈ lw_all := lw_g (lw_at lw_m3 167 rfl) rfl
theorem q805 : (Jvm.Cond.instantiable "LettersOnStrike$Name" (1 : Nat)) ∈ lw_all := lw_g (lw_at lw_m3 168 rfl) rfl
theorem q806 : (Jvm.Cond.methodLinkNest "LettersOnStrike$Tokens" (219 : Nat) ({ cls := "LettersOnStrike$Name", name := "<init>", desc := "(I)V" } : Jvm.MethodName) "LettersOnStrike") ∈ lw_tbl := lw_at lw_m3 169 rfl
theorem q807 : (Jvm.Cond.instanceMethod ({ cls := "LettersOnStrike$Name", name := "<init>", desc := "(I)V" } : Jvm.MethodName)) ∈ lw_all := lw_g (lw_at lw_m3 170 rfl) rfl
theorem q808 : (Jvm.Cond.code ({ cls := "LettersOnStrike$Name", name := "<init>", desc := "(I)V" } : Jvm.MethodName) prog_8_method_1_code (2 : Nat) (Option.none : Option Jvm.ClassFile.FieldType)) ∈ lw_all := lw_g (lw_at lw_m3 171 rfl) rfl
theorem q809 : (Jvm.Cond.methodLink "LettersOnStrike$Name" (1 : Nat) ({ cls := "java/lang/Record", name := "<init>", desc := "()V" } : Jvm.MethodName)) ∈ lw_all := lw_g (lw_at lw_m3 172 rfl) rfl
theorem q810 : (Jvm.Cond.fieldLink "LettersOnStrike$Name" (7 : Nat) "LettersOnStrike$Name" "which" "I") ∈ lw_all := lw_g (lw_at lw_m3 173 rfl) rfl
theorem q811 : (Jvm.Cond.laysFinal "LettersOnStrike$Name" "LettersOnStrike$Name" "which" "I") ∈ lw_all := lw_g (lw_at lw_m3 174 rfl) rfl
theorem q812 : (Jvm.Cond.soleField "LettersOnStrike$Name" "which") ∈ lw_all := lw_g (lw_at lw_m3 175 rfl) rfl
theorem q813 : (Jvm.Cond.superclass "LettersOnStrike$Name" "java/lang/Record") ∈ lw_all := lw_g (lw_at lw_m3 176 rfl) rfl
theorem q814 : (Jvm.Cond.methodLink "LettersOnStrike$Tokens" (107 : Nat) ({ cls := "LettersOnStrike$Tokens", name := "want", desc := "(I)V" } : Jvm.MethodName)) ∈ lw_all := lw_g (lw_at lw_m3 177 rfl) rfl
theorem q815 : (Jvm.Cond.privateMethod ({ cls := "LettersOnStrike$Tokens", name := "want", desc := "(I)V" } : Jvm.MethodName)) ∈ lw_tbl := lw_at lw_m3 178 rfl
theorem q816 : (Jvm.Cond.instanceMethod ({ cls := "LettersOnStrike$Tokens", name := "want", desc := "(I)V" } : Jvm.MethodName)) ∈ lw_all := lw_g (lw_at lw_m3 179 rfl) rfl
theorem q817 : (Jvm.Cond.code ({ cls := "LettersOnStrike$Tokens", name := "want", desc := "(I)V" } : Jvm.MethodName) prog_14_method_7_code (2 : Nat) (Option.none : Option Jvm.ClassFile.FieldType)) ∈ lw_all := lw_g (lw_at lw_m3 180 rfl) rfl
theorem q818 : (Jvm.Cond.classLink "LettersOnStrike$Tokens" (220 : Nat) "LettersOnStrike$Minus") ∈ lw_all := lw_g (lw_at lw_m3 181 rfl) rfl
theorem q819 : (Jvm.Cond.instantiable "LettersOnStrike$Minus" (1 : Nat)) ∈ lw_all := lw_g (lw_at lw_m3 182 rfl) rfl
theorem q820 : (Jvm.Cond.methodLinkNest "LettersOnStrike$Tokens" (222 : Nat) ({ cls := "LettersOnStrike$Minus", name := "<init>", desc := "(LLettersOnStrike$Sum;)V" } : Jvm.MethodName) "LettersOnStrike") ∈ lw_tbl := lw_at lw_m3 183 rfl
theorem q821 : (Jvm.Cond.instanceMethod ({ cls := "LettersOnStrike$Minus", name := "<init>", desc := "(LLettersOnStrike$Sum;)V" } : Jvm.MethodName)) ∈ lw_all := lw_g (lw_at lw_m3 184 rfl) rfl
theorem q822 : (Jvm.Cond.code ({ cls := "LettersOnStrike$Minus", name := "<init>", desc := "(LLettersOnStrike$Sum;)V" } : Jvm.MethodName) prog_7_method_1_code (2 : Nat) (Option.none : Option Jvm.ClassFile.FieldType)) ∈ lw_all := lw_g (lw_at lw_m3 185 rfl) rfl
theorem q823 : (Jvm.Cond.methodLink "LettersOnStrike$Minus" (1 : Nat) ({ cls := "java/lang/Record", name := "<init>", desc := "()V" } : Jvm.MethodName)) ∈ lw_all := lw_g (lw_at lw_m3 186 rfl) rfl
theorem q824 : (Jvm.Cond.fieldLink "LettersOnStrike$Minus" (7 : Nat) "LettersOnStrike$Minus" "x" "LLettersOnStrike$Sum;") ∈ lw_all := lw_g (lw_at lw_m3 187 rfl) rfl
theorem q825 : (Jvm.Cond.laysFinal "LettersOnStrike$Minus" "LettersOnStrike$Minus" "x" "LLettersOnStrike$Sum;") ∈ lw_all := lw_g (lw_at lw_m3 188 rfl) rfl
theorem q826 : (Jvm.Cond.soleField "LettersOnStrike$Minus" "x") ∈ lw_all := lw_g (lw_at lw_m3 189 rfl) rfl
theorem q827 : (Jvm.Cond.superclass "LettersOnStrike$Minus" "java/lang/Record") ∈ lw_all := lw_g (lw_at lw_m3 190 rfl) rfl
theorem q828 : (Jvm.Cond.methodLink "LettersOnStrike$Tokens" (198 : Nat) ({ cls := "LettersOnStrike$Chain", name := "<init>", desc := "(LLettersOnStrike$Sum;)V" } : Jvm.MethodName)) ∈ lw_all := lw_g (lw_at lw_m3 191 rfl) rfl
theorem q829 : (Jvm.Cond.instanceMethod ({ cls := "LettersOnStrike$Chain", name := "<init>", desc := "(LLettersOnStrike$Sum;)V" } : Jvm.MethodName)) ∈ lw_all := lw_g (lw_at lw_m3 192 rfl) rfl
theorem q830 : (Jvm.Cond.code ({ cls := "LettersOnStrike$Chain", name := "<init>", desc := "(LLettersOnStrike$Sum;)V" } : Jvm.MethodName) prog_4_method_1_code (2 : Nat) (Option.none : Option Jvm.ClassFile.FieldType)) ∈ lw_all := lw_g (lw_at lw_m3 193 rfl) rfl
theorem q831 : (Jvm.Cond.methodLink "LettersOnStrike$Chain" (3 : Nat) ({ cls := "java/lang/Object", name := "<init>", desc := "()V" } : Jvm.MethodName)) ∈ lw_all := lw_g (lw_at lw_m3 194 rfl) rfl
theorem q832 : (Jvm.Cond.classLink "LettersOnStrike$Chain" (9 : Nat) "java/util/ArrayList") ∈ lw_all := lw_g (lw_at lw_m3 195 rfl) rfl
theorem q833 : (Jvm.Cond.methodLink "LettersOnStrike$Chain" (11 : Nat) ({ cls := "java/util/ArrayList", name := "<init>", desc := "()V" } : Jvm.MethodName)) ∈ lw_all := lw_g (lw_at lw_m3 196 rfl) rfl
theorem q834 : (Jvm.Cond.fieldLink "LettersOnStrike$Chain" (21 : Nat) "LettersOnStrike$Chain" "first" "LLettersOnStrike$Sum;") ∈ lw_all := lw_g (lw_at lw_m3 197 rfl) rfl
theorem q835 : (Jvm.Cond.fieldLink "LettersOnStrike$Chain" (12 : Nat) "LettersOnStrike$Chain" "more" "Ljava/util/ArrayList;") ∈ lw_all := lw_g (lw_at lw_m3 198 rfl) rfl
theorem q836 : (Jvm.Cond.fieldLink "LettersOnStrike$Chain" (18 : Nat) "LettersOnStrike$Chain" "signs" "Ljava/util/ArrayList;") ∈ lw_all := lw_g (lw_at lw_m3 199 rfl) rfl
theorem q837 : (Jvm.Cond.laysFinal "LettersOnStrike$Chain" "LettersOnStrike$Chain" "first" "LLettersOnStrike$Sum;") ∈ lw_all := lw_g (lw_at lw_m3 200 rfl) rfl
theorem q838 : (Jvm.Cond.soleField "LettersOnStrike$Chain" "first") ∈ lw_all := lw_g (lw_at lw_m3 201 rfl) rfl
theorem q839 : (Jvm.Cond.laysFinal "LettersOnStrike$Chain" "LettersOnStrike$Chain" "more" "Ljava/util/ArrayList;") ∈ lw_all := lw_g (lw_at lw_m3 202 rfl) rfl
theorem q840 : (Jvm.Cond.soleField "LettersOnStrike$Chain" "more") ∈ lw_all := lw_g (lw_at lw_m3 203 rfl) rfl
theorem q841 : (Jvm.Cond.laysFinal "LettersOnStrike$Chain" "LettersOnStrike$Chain" "signs" "Ljava/util/ArrayList;") ∈ lw_all := lw_g (lw_at lw_m3 204 rfl) rfl
theorem q842 : (Jvm.Cond.soleField "LettersOnStrike$Chain" "signs") ∈ lw_all := lw_g (lw_at lw_m3 205 rfl) rfl
theorem q843 : (Jvm.Cond.superclass "LettersOnStrike$Chain" "java/lang/Object") ∈ lw_all := lw_g (lw_at lw_m3 206 rfl) rfl
theorem q844 : (Jvm.Cond.methodLink "LettersOnStrike$Tokens" (201 : Nat) ({ cls := "LettersOnStrike$Chain", name := "add", desc := "(ILLettersOnStrike$Sum;)V" } : Jvm.MethodName)) ∈ lw_all := lw_g (lw_at lw_m3 207 rfl) rfl
theorem q845 : (Jvm.Cond.instanceMethod ({ cls := "LettersOnStrike$Chain", name := "add", desc := "(ILLettersOnStrike$Sum;)V" } : Jvm.MethodName)) ∈ lw_all := lw_g (lw_at lw_m3 208 rfl) rfl
theorem q846 : (Jvm.Cond.selects "LettersOnStrike$Chain" ({ cls := "LettersOnStrike$Chain", name := "add", desc := "(ILLettersOnStrike$Sum;)V" } : Jvm.MethodName) ({ cls := "LettersOnStrike$Chain", name := "add", desc := "(ILLettersOnStrike$Sum;)V" } : Jvm.MethodName)) ∈ lw_all := lw_g (lw_at lw_m3 209 rfl) rfl
theorem q847 : (Jvm.Cond.code ({ cls := "LettersOnStrike$Chain", name := "add", desc := "(ILLettersOnStrike$Sum;)V" } : Jvm.MethodName) prog_4_method_2_code (3 : Nat) (Option.none : Option Jvm.ClassFile.FieldType)) ∈ lw_all := lw_g (lw_at lw_m3 210 rfl) rfl
theorem q848 : (Jvm.Cond.methodLink "LettersOnStrike$Chain" (25 : Nat) ({ cls := "java/lang/Integer", name := "valueOf", desc := "(I)Ljava/lang/Integer;" } : Jvm.MethodName)) ∈ lw_all := lw_g (lw_at lw_m3 211 rfl) rfl
theorem q849 : (Jvm.Cond.static ({ cls := "java/lang/Integer", name := "valueOf", desc := "(I)Ljava/lang/Integer;" } : Jvm.MethodName)) ∈ lw_all := lw_g (lw_at lw_m3 212 rfl) rfl
theorem q850 : (Jvm.Cond.code ({ cls := "java/lang/Integer", name := "valueOf", desc := "(I)Ljava/lang/Integer;" } : Jvm.MethodName) prog_24_method_22_code (1 : Nat) (Option.some (Jvm.ClassFile.FieldType.object "java/lang/Integer"))) ∈ lw_all := lw_g (lw_at lw_m3 213 rfl) rfl
theorem q851 : (Jvm.Cond.fieldLink "java/lang/Integer" (191 : Nat) "java/lang/Integer$IntegerCache" "high" "I") ∈ lw_all := lw_g (lw_at lw_m3 214 rfl) rfl
theorem q852 : (Jvm.Cond.laysStatic "java/lang/Integer$IntegerCache" "high" "I") ∈ lw_tbl := lw_at lw_m3 215 rfl
theorem q853 : (Jvm.Cond.fieldLink "java/lang/Integer" (195 : Nat) "java/lang/Integer$IntegerCache" "cache" "[Ljava/lang/Integer;") ∈ lw_all := lw_g (lw_at lw_m3 216 rfl) rfl
theorem q854 : (Jvm.Cond.laysStatic "java/lang/Integer$IntegerCache" "cache" "[Ljava/lang/Integer;") ∈ lw_tbl := lw_at lw_m3 217 rfl
theorem q855 : (Jvm.Cond.classLink "java/lang/Integer" (1 : Nat) "java/lang/Integer") ∈ lw_all := lw_g (lw_at lw_m3 218 rfl) rfl
theorem q856 : (Jvm.Cond.instantiable "java/lang/Integer" (1 : Nat)) ∈ lw_all := lw_g (lw_at lw_m3 219 rfl) rfl
theorem q857 : (Jvm.Cond.methodLink "java/lang/Integer" (199 : Nat) ({ cls := "java/lang/Integer", name := "<init>", desc := "(I)V" } : Jvm.MethodName)) ∈ lw_all := lw_g (lw_at lw_m3 220 rfl) rfl
theorem q858 : (Jvm.Cond.instanceMethod ({ cls := "java/lang/Integer", name := "<init>", desc := "(I)V" } : Jvm.MethodName)) ∈ lw_all := lw_g (lw_at lw_m3 221 rfl) rfl
theorem q859 : (Jvm.Cond.code ({ cls := "java/lang/Integer", name := "<init>", desc := "(I)V" } : Jvm.MethodName) prog_24_method_23_code (2 : Nat) (Option.none : Option Jvm.ClassFile.FieldType)) ∈ lw_all := lw_g (lw_at lw_m3 222 rfl) rfl
theorem q860 : (Jvm.Cond.methodLink "java/lang/Integer" (202 : Nat) ({ cls := "java/lang/Number", name := "<init>", desc := "()V" } : Jvm.MethodName)) ∈ lw_all := lw_g (lw_at lw_m3 223 rfl) rfl
theorem q861 : (Jvm.Cond.instanceMethod ({ cls := "java/lang/Number", name := "<init>", desc := "()V" } : Jvm.MethodName)) ∈ lw_all := lw_g (lw_at lw_m3 224 rfl) rfl
theorem q862 : (Jvm.Cond.code ({ cls := "java/lang/Number", name := "<init>", desc := "()V" } : Jvm.MethodName) prog_29_method_1_code (1 : Nat) (Option.none : Option Jvm.ClassFile.FieldType)) ∈ lw_all := lw_g (lw_at lw_m3 225 rfl) rfl
theorem q863 : (Jvm.Cond.methodLink "java/lang/Number" (1 : Nat) ({ cls := "java/lang/Object", name := "<init>", desc := "()V" } : Jvm.MethodName)) ∈ lw_all := lw_g (lw_at lw_m3 226 rfl) rfl
theorem q864 : (Jvm.Cond.fieldLink "java/lang/Integer" (205 : Nat) "java/lang/Integer" "value" "I") ∈ lw_all := lw_g (lw_at lw_m3 227 rfl) rfl
theorem q865 : (Jvm.Cond.laysFinal "java/lang/Integer" "java/lang/Integer" "value" "I") ∈ lw_all := lw_g (lw_at lw_m3 228 rfl) rfl
theorem q866 : (Jvm.Cond.soleField "java/lang/Integer" "value") ∈ lw_all := lw_g (lw_at lw_m3 229 rfl) rfl
theorem q867 : (Jvm.Cond.superclass "java/lang/Integer" "java/lang/Number") ∈ lw_all := lw_g (lw_at lw_m3 230 rfl) rfl
theorem q868 : (Jvm.Cond.methodLink "LettersOnStrike$Chain" (31 : Nat) ({ cls := "java/util/ArrayList", name := "add", desc := "(Ljava/lang/Object;)Z" } : Jvm.MethodName)) ∈ lw_all := lw_g (lw_at lw_m3 231 rfl) rfl
theorem q869 : (Jvm.Cond.instanceMethod ({ cls := "java/util/ArrayList", name := "add", desc := "(Ljava/lang/Object;)Z" } : Jvm.MethodName)) ∈ lw_all := lw_g (lw_at lw_m3 232 rfl) rfl
theorem q870 : (Jvm.Cond.selects "java/util/ArrayList" ({ cls := "java/util/ArrayList", name := "add", desc := "(Ljava/lang/Object;)Z" } : Jvm.MethodName) ({ cls := "java/util/ArrayList", name := "add", desc := "(Ljava/lang/Object;)Z" } : Jvm.MethodName)) ∈ lw_all := lw_g (lw_at lw_m3 233 rfl) rfl
theorem q871 : (Jvm.Cond.code ({ cls := "java/util/ArrayList", name := "add", desc := "(Ljava/lang/Object;)Z" } : Jvm.MethodName) prog_40_method_25_code (2 : Nat) (Option.some Jvm.ClassFile.FieldType.boolean)) ∈ lw_all := lw_g (lw_at lw_m3 234 rfl) rfl
theorem q872 : (Jvm.Cond.methodLink "java/util/ArrayList" (131 : Nat) ({ cls := "java/util/ArrayList", name := "add", desc := "(Ljava/lang/Object;[Ljava/lang/Object;I)V" } : Jvm.MethodName)) ∈ lw_all := lw_g (lw_at lw_m3 235 rfl) rfl
theorem q873 : (Jvm.Cond.privateMethod ({ cls := "java/util/ArrayList", name := "add", desc := "(Ljava/lang/Object;[Ljava/lang/Object;I)V" } : Jvm.MethodName)) ∈ lw_tbl := lw_at lw_m3 236 rfl
theorem q874 : (Jvm.Cond.instanceMethod ({ cls := "java/util/ArrayList", name := "add", desc := "(Ljava/lang/Object;[Ljava/lang/Object;I)V" } : Jvm.MethodName)) ∈ lw_all := lw_g (lw_at lw_m3 237 rfl) rfl
theorem q875 : (Jvm.Cond.code ({ cls := "java/util/ArrayList", name := "add", desc := "(Ljava/lang/Object;[Ljava/lang/Object;I)V" } : Jvm.MethodName) prog_40_method_24_code (4 : Nat) (Option.none : Option Jvm.ClassFile.FieldType)) ∈ lw_all := lw_g (lw_at lw_m3 238 rfl) rfl
theorem q876 : (Jvm.Cond.methodLink "java/util/ArrayList" (129 : Nat) ({ cls := "java/util/ArrayList", name := "grow", desc := "()[Ljava/lang/Object;" } : Jvm.MethodName)) ∈ lw_all := lw_g (lw_at lw_m3 239 rfl) rfl
theorem q877 : (Jvm.Cond.privateMethod ({ cls := "java/util/ArrayList", name := "grow", desc := "()[Ljava/lang/Object;" } : Jvm.MethodName)) ∈ lw_tbl := lw_at lw_m4 0 rfl
theorem q878 : (Jvm.Cond.instanceMethod ({ cls := "java/util/ArrayList", name := "grow", desc := "()[Ljava/lang/Object;" } : Jvm.MethodName)) ∈ lw_all := lw_g (lw_at lw_m4 1 rfl) rfl
theorem q879 : (Jvm.Cond.code ({ cls := "java/util/ArrayList", name := "grow", desc := "()[Ljava/lang/Object;" } : Jvm.MethodName) prog_40_method_7_code (1 : Nat) (Option.some (Jvm.ClassFile.FieldType.array (Jvm.ClassFile.FieldType.object "java/lang/Object")))) ∈ lw_all := lw_g (lw_at lw_m4 2 rfl) rfl
theorem q880 : (Jvm.Cond.methodLink "java/util/ArrayList" (69 : Nat) ({ cls := "java/util/ArrayList", name := "grow", desc := "(I)[Ljava/lang/Object;" } : Jvm.MethodName)) ∈ lw_all := lw_g (lw_at lw_m4 3 rfl) rfl
theorem q881 : (Jvm.Cond.privateMethod ({ cls := "java/util/ArrayList", name := "grow", desc := "(I)[Ljava/lang/Object;" } : Jvm.MethodName)) ∈ lw_tbl := lw_at lw_m4 4 rfl
theorem q882 : (Jvm.Cond.instanceMethod ({ cls := "java/util/ArrayList", name := "grow", desc := "(I)[Ljava/lang/Object;" } : Jvm.MethodName)) ∈ lw_all := lw_g (lw_at lw_m4 5 rfl) rfl
theorem q883 : (Jvm.Cond.code ({ cls := "java/util/ArrayList", name := "grow", desc := "(I)[Ljava/lang/Object;" } : Jvm.MethodName) prog_40_method_6_code (4 : Nat) (Option.some (Jvm.ClassFile.FieldType.array (Jvm.ClassFile.FieldType.object "java/lang/Object")))) ∈ lw_all := lw_g (lw_at lw_m4 6 rfl) rfl
theorem q884 : (Jvm.Cond.methodLink "java/util/ArrayList" (73 : Nat) ({ cls := "jdk/internal/util/ArraysSupport", name := "newLength", desc := "(III)I" } : Jvm.MethodName)) ∈ lw_all := lw_g (lw_at lw_m4 7 rfl) rfl
theorem q885 : (Jvm.Cond.static ({ cls := "jdk/internal/util/ArraysSupport", name := "newLength", desc := "(III)I" } : Jvm.MethodName)) ∈ lw_all := lw_g (lw_at lw_m4 8 rfl) rfl
theorem q886 : (Jvm.Cond.code ({ cls := "jdk/internal/util/ArraysSupport", name := "newLength", desc := "(III)I" } : Jvm.MethodName) prog_49_method_27_code (4 : Nat) (Option.some Jvm.ClassFile.FieldType.int)) ∈ lw_all := lw_g (lw_at lw_m4 9 rfl) rfl
theorem q887 : (Jvm.Cond.methodLink "jdk/internal/util/ArraysSupport" (194 : Nat) ({ cls := "java/lang/Math", name := "max", desc := "(II)I" } : Jvm.MethodName)) ∈ lw_all := lw_g (lw_at lw_m4 10 rfl) rfl
theorem q888 : (Jvm.Cond.static ({ cls := "java/lang/Math", name := "max", desc := "(II)I" } : Jvm.MethodName)) ∈ lw_all := lw_g (lw_at lw_m4 11 rfl) rfl
theorem q889 : (Jvm.Cond.code ({ cls := "java/lang/Math", name := "max", desc := "(II)I" } : Jvm.MethodName) prog_28_method_65_code (2 : Nat) (Option.some Jvm.ClassFile.FieldType.int)) ∈ lw_all := lw_g (lw_at lw_m4 12 rfl) rfl
theorem q890 : (Jvm.Cond.constant "jdk/internal/util/ArraysSupport" (200 : Nat) (2147483639 : Int32)) ∈ lw_all := lw_g (lw_at lw_m4 13 rfl) rfl
theorem q891 : (Jvm.Cond.methodLink "jdk/internal/util/ArraysSupport" (201 : Nat) ({ cls := "jdk/internal/util/ArraysSupport", name := "hugeLength", desc := "(II)I" } : Jvm.MethodName)) ∈ lw_all := lw_g (lw_at lw_m4 14 rfl) rfl
theorem q892 : (Jvm.Cond.static ({ cls := "jdk/internal/util/ArraysSupport", name := "hugeLength", desc := "(II)I" } : Jvm.MethodName)) ∈ lw_all := lw_g (lw_at lw_m4 15 rfl) rfl
theorem q893 : (Jvm.Cond.code ({ cls := "jdk/internal/util/ArraysSupport", name := "hugeLength", desc := "(II)I" } : Jvm.MethodName) prog_49_method_28_code (3 : Nat) (Option.some Jvm.ClassFile.FieldType.int)) ∈ lw_all := lw_g (lw_at lw_m4 16 rfl) rfl
theorem q894 : (Jvm.Cond.methodLink "java/util/ArrayList" (66 : Nat) ({ cls := "java/util/Arrays", name := "copyOf", desc := "([Ljava/lang/Object;I)[Ljava/lang/Object;" } : Jvm.MethodName)) ∈ lw_all := lw_g (lw_at lw_m4 17 rfl) rfl
theorem q895 : (Jvm.Cond.static ({ cls := "java/util/Arrays", name := "copyOf", desc := "([Ljava/lang/Object;I)[Ljava/lang/Object;" } : Jvm.MethodName)) ∈ lw_all := lw_g (lw_at lw_m4 18 rfl) rfl
theorem q896 : (Jvm.Cond.code ({ cls := "java/util/Arrays", name := "copyOf", desc := "([Ljava/lang/Object;I)[Ljava/lang/Object;" } : Jvm.MethodName) prog_41_method_119_code (2 : Nat) (Option.some (Jvm.ClassFile.FieldType.array (Jvm.ClassFile.FieldType.object "java/lang/Object")))) ∈ lw_all := lw_g (lw_at lw_m4 19 rfl) rfl
theorem q897 : (Jvm.Cond.methodLink "java/util/Arrays" (86 : Nat) ({ cls := "java/lang/Object", name := "getClass", desc := "()Ljava/lang/Class;" } : Jvm.MethodName)) ∈ lw_all := lw_g (lw_at lw_m4 20 rfl) rfl
theorem q898 : (Jvm.Cond.instanceMethod ({ cls := "java/lang/Object", name := "getClass", desc := "()Ljava/lang/Class;" } : Jvm.MethodName)) ∈ lw_all := lw_g (lw_at lw_m4 21 rfl) rfl
theorem q899 : (Jvm.Cond.sameMethod "java/lang/Object" "java/lang/Object" "getClass" "()Ljava/lang/Class;") ∈ lw_all := lw_g (lw_at lw_m4 22 rfl) rfl
theorem q900 : (Jvm.Cond.selects "LettersOnStrike" ({ cls := "java/lang/Object", name := "getClass", desc := "()Ljava/lang/Class;" } : Jvm.MethodName) ({ cls := "java/lang/Object", name := "getClass", desc := "()Ljava/lang/Class;" } : Jvm.MethodName)) ∈ lw_all := lw_g (lw_at lw_m4 23 rfl) rfl
theorem q901 : (Jvm.Cond.selects "LettersOnStrike$All" ({ cls := "java/lang/Object", name := "getClass", desc := "()Ljava/lang/Class;" } : Jvm.MethodName) ({ cls := "java/lang/Object", name := "getClass", desc := "()Ljava/lang/Class;" } : Jvm.MethodName)) ∈ lw_all := lw_g (lw_at lw_m4 24 rfl) rfl
theorem q902 : (Jvm.Cond.selects "LettersOnStrike$Chain" ({ cls := "java/lang/Object", name := "getClass", desc := "()Ljava/lang/Class;" } : Jvm.MethodName) ({ cls := "java/lang/Object", name := "getClass", desc := "()Ljava/lang/Class;" } : Jvm.MethodName)) ∈ lw_all := lw_g (lw_at lw_m4 25 rfl) rfl
theorem q903 : (Jvm.Cond.selects "LettersOnStrike$Compared" ({ cls := "java/lang/Object", name := "getClass", desc := "()Ljava/lang/Class;" } : Jvm.MethodName) ({ cls := "java/lang/Object", name := "getClass", desc := "()Ljava/lang/Class;" } : Jvm.MethodName)) ∈ lw_all := lw_g (lw_at lw_m4 26 rfl) rfl
theorem q904 : (Jvm.Cond.selects "LettersOnStrike$Doing" ({ cls := "java/lang/Object", name := "getClass", desc := "()Ljava/lang/Class;" } : Jvm.MethodName) ({ cls := "java/lang/Object", name := "getClass", desc := "()Ljava/lang/Class;" } : Jvm.MethodName)) ∈ lw_all := lw_g (lw_at lw_m4 27 rfl) rfl
theorem q905 : (Jvm.Cond.selects "LettersOnStrike$Minus" ({ cls := "java/lang/Object", name := "getClass", desc := "()Ljava/lang/Class;" } : Jvm.MethodName) ({ cls := "java/lang/Object", name := "getClass", desc := "()Ljava/lang/Class;" } : Jvm.MethodName)) ∈ lw_all := lw_g (lw_at lw_m4 28 rfl) rfl
theorem q906 : (Jvm.Cond.selects "LettersOnStrike$Name" ({ cls := "java/lang/Object", name := "getClass", desc := "()Ljava/lang/Class;" } : Jvm.MethodName) ({ cls := "java/lang/Object", name := "getClass", desc := "()Ljava/lang/Class;" } : Jvm.MethodName)) ∈ lw_all := lw_g (lw_at lw_m4 29 rfl) rfl
theorem q907 : (Jvm.Cond.selects "LettersOnStrike$Not" ({ cls := "java/lang/Object", name := "getClass", desc := "()Ljava/lang/Class;" } : Jvm.MethodName) ({ cls := "java/lang/Object", name := "getClass", desc := "()Ljava/lang/Class;" } : Jvm.MethodName)) ∈ lw_all := lw_g (lw_at lw_m4 30 rfl) rfl
theorem q908 : (Jvm.Cond.selects "LettersOnStrike$Plain" ({ cls := "java/lang/Object", name := "getClass", desc := "()Ljava/lang/Class;" } : Jvm.MethodName) ({ cls := "java/lang/Object", name := "getClass", desc := "()Ljava/lang/Class;" } : Jvm.MethodName)) ∈ lw_all := lw_g (lw_at lw_m4 31 rfl) rfl
theorem q909 : (Jvm.Cond.selects "LettersOnStrike$State" ({ cls := "java/lang/Object", name := "getClass", desc := "()Ljava/lang/Class;" } : Jvm.MethodName) ({ cls := "java/lang/Object", name := "getClass", desc := "()Ljava/lang/Class;" } : Jvm.MethodName)) ∈ lw_all := lw_g (lw_at lw_m4 32 rfl) rfl
theorem q910 : (Jvm.Cond.selects "LettersOnStrike$Text" ({ cls := "java/lang/Object", name := "getClass", desc := "()Ljava/lang/Class;" } : Jvm.MethodName) ({ cls := "java/lang/Object", name := "getClass", desc := "()Ljava/lang/Class;" } : Jvm.MethodName)) ∈ lw_all := lw_g (lw_at lw_m4 33 rfl) rfl
theorem q911 : (Jvm.Cond.selects "LettersOnStrike$Tokens" ({ cls := "java/lang/Object", name := "getClass", desc := "()Ljava/lang/Class;" } : Jvm.MethodName) ({ cls := "java/lang/Object", name := "getClass", desc := "()Ljava/lang/Class;" } : Jvm.MethodName)) ∈ lw_all := lw_g (lw_at lw_m4 34 rfl) rfl
theorem q912 : (Jvm.Cond.selects "LettersOnStrike$Word" ({ cls := "java/lang/Object", name := "getClass", desc := "()Ljava/lang/Class;" } : Jvm.MethodName) ({ cls := "java/lang/Object", name := "getClass", desc := "()Ljava/lang/Class;" } : Jvm.MethodName)) ∈ lw_all := lw_g (lw_at lw_m4 35 rfl) rfl
theorem q913 : (Jvm.Cond.selects "LettersOnStrike$Wrong" ({ cls := "java/lang/Object", name := "getClass", desc := "()Ljava/lang/Class;" } : Jvm.MethodName) ({ cls := "java/lang/Object", name := "getClass", desc := "()Ljava/lang/Class;" } : Jvm.MethodName)) ∈ lw_all := lw_g (lw_at lw_m4 36 rfl) rfl
theorem q914 : (Jvm.Cond.selects "LettersOnStrikeModel" ({ cls := "java/lang/Object", name := "getClass", desc := "()Ljava/lang/Class;" } : Jvm.MethodName) ({ cls := "java/lang/Object", name := "getClass", desc := "()Ljava/lang/Class;" } : Jvm.MethodName)) ∈ lw_all := lw_g (lw_at lw_m4 37 rfl) rfl
theorem q915 : (Jvm.Cond.selects "java/lang/Integer" ({ cls := "java/lang/Object", name := "getClass", desc := "()Ljava/lang/Class;" } : Jvm.MethodName) ({ cls := "java/lang/Object", name := "getClass", desc := "()Ljava/lang/Class;" } : Jvm.MethodName)) ∈ lw_all := lw_g (lw_at lw_m4 38 rfl) rfl
theorem q916 : (Jvm.Cond.selects "java/util/ArrayList" ({ cls := "java/lang/Object", name := "getClass", desc := "()Ljava/lang/Class;" } : Jvm.MethodName) ({ cls := "java/lang/Object", name := "getClass", desc := "()Ljava/lang/Class;" } : Jvm.MethodName)) ∈ lw_all := lw_g (lw_at lw_m4 39 rfl) rfl
theorem q917 : (Jvm.Cond.selects "jdk/internal/misc/Unsafe" ({ cls := "java/lang/Object", name := "getClass", desc := "()Ljava/lang/Class;" } : Jvm.MethodName) ({ cls := "java/lang/Object", name := "getClass", desc := "()Ljava/lang/Class;" } : Jvm.MethodName)) ∈ lw_all := lw_g (lw_at lw_m4 40 rfl) rfl
theorem q918 : (Jvm.Cond.native ({ cls := "java/lang/Object", name := "getClass", desc := "()Ljava/lang/Class;" } : Jvm.MethodName)) ∈ lw_all := lw_g (lw_at lw_m4 41 rfl) rfl
theorem q919 : (Jvm.Cond.methodLink "java/util/Arrays" (300 : Nat) ({ cls := "java/util/Arrays", name := "copyOf", desc := "([Ljava/lang/Object;ILjava/lang/Class;)[Ljava/lang/Object;" } : Jvm.MethodName)) ∈ lw_all := lw_g (lw_at lw_m4 42 rfl) rfl
theorem q920 : (Jvm.Cond.static ({ cls := "java/util/Arrays", name := "copyOf", desc := "([Ljava/lang/Object;ILjava/lang/Class;)[Ljava/lang/Object;" } : Jvm.MethodName)) ∈ lw_all := lw_g (lw_at lw_m4 43 rfl) rfl
theorem q921 : (Jvm.Cond.code ({ cls := "java/util/Arrays", name := "copyOf", desc := "([Ljava/lang/Object;ILjava/lang/Class;)[Ljava/lang/Object;" } : Jvm.MethodName) prog_41_method_120_code (4 : Nat) (Option.some (Jvm.ClassFile.FieldType.array (Jvm.ClassFile.FieldType.object "java/lang/Object")))) ∈ lw_all := lw_g (lw_at lw_m4 44 rfl) rfl
theorem q922 : (Jvm.Cond.classLink "java/util/Arrays" (110 : Nat) "[Ljava/lang/Object;") ∈ lw_all := lw_g (lw_at lw_m4 45 rfl) rfl
theorem q923 : (Jvm.Cond.arrayOver (Jvm.ClassFile.FieldType.object "java/lang/Object")) ∈ lw_tbl := lw_at lw_m4 46 rfl
theorem q924 : (Jvm.Cond.classLink "java/util/Arrays" (2 : Nat) "java/lang/Object") ∈ lw_all := lw_g (lw_at lw_m4 47 rfl) rfl
theorem q925 : (Jvm.Cond.methodLink "java/util/Arrays" (304 : Nat) ({ cls := "java/lang/Math", name := "min", desc := "(II)I" } : Jvm.MethodName)) ∈ lw_all := lw_g (lw_at lw_m4 48 rfl) rfl
theorem q926 : (Jvm.Cond.methodLink "java/util/Arrays" (150 : Nat) ({ cls := "java/lang/System", name := "arraycopy", desc := "(Ljava/lang/Object;ILjava/lang/Object;II)V" } : Jvm.MethodName)) ∈ lw_all := lw_g (lw_at lw_m4 49 rfl) rfl
theorem q927 : (Jvm.Cond.methodLink "java/util/ArrayList" (79 : Nat) ({ cls := "java/lang/Math", name := "max", desc := "(II)I" } : Jvm.MethodName)) ∈ lw_all := lw_g (lw_at lw_m4 50 rfl) rfl
theorem q928 : (Jvm.Cond.classLink "java/util/ArrayList" (7 : Nat) "java/lang/Object") ∈ lw_all := lw_g (lw_at lw_m4 51 rfl) rfl
theorem q929 : (Jvm.Cond.methodLink "LettersOnStrike$Tokens" (204 : Nat) ({ cls := "LettersOnStrike$Chain", name := "itself", desc := "()LLettersOnStrike$Sum;" } : Jvm.MethodName)) ∈ lw_all := lw_g (lw_at lw_m4 52 rfl) rfl
theorem q930 : (Jvm.Cond.instanceMethod ({ cls := "LettersOnStrike$Chain", name := "itself", desc := "()LLettersOnStrike$Sum;" } : Jvm.MethodName)) ∈ lw_all := lw_g (lw_at lw_m4 53 rfl) rfl
theorem q931 : (Jvm.Cond.selects "LettersOnStrike$Chain" ({ cls := "LettersOnStrike$Chain", name := "itself", desc := "()LLettersOnStrike$Sum;" } : Jvm.MethodName) ({ cls := "LettersOnStrike$Chain", name := "itself", desc := "()LLettersOnStrike$Sum;" } : Jvm.MethodName)) ∈ lw_all := lw_g (lw_at lw_m4 54 rfl) rfl
theorem q932 : (Jvm.Cond.code ({ cls := "LettersOnStrike$Chain", name := "itself", desc := "()LLettersOnStrike$Sum;" } : Jvm.MethodName) prog_4_method_3_code (1 : Nat) (Option.some (Jvm.ClassFile.FieldType.object "LettersOnStrike$Sum"))) ∈ lw_all := lw_g (lw_at lw_m4 55 rfl) rfl
theorem q933 : (Jvm.Cond.methodLink "LettersOnStrike$Chain" (35 : Nat) ({ cls := "java/util/ArrayList", name := "isEmpty", desc := "()Z" } : Jvm.MethodName)) ∈ lw_all := lw_g (lw_at lw_m4 56 rfl) rfl
theorem q934 : (Jvm.Cond.instanceMethod ({ cls := "java/util/ArrayList", name := "isEmpty", desc := "()Z" } : Jvm.MethodName)) ∈ lw_all := lw_g (lw_at lw_m4 57 rfl) rfl
theorem q935 : (Jvm.Cond.selects "java/util/ArrayList" ({ cls := "java/util/ArrayList", name := "isEmpty", desc := "()Z" } : Jvm.MethodName) ({ cls := "java/util/ArrayList", name := "isEmpty", desc := "()Z" } : Jvm.MethodName)) ∈ lw_all := lw_g (lw_at lw_m4 58 rfl) rfl
theorem q936 : (Jvm.Cond.code ({ cls := "java/util/ArrayList", name := "isEmpty", desc := "()Z" } : Jvm.MethodName) prog_40_method_9_code (1 : Nat) (Option.some Jvm.ClassFile.FieldType.boolean)) ∈ lw_all := lw_g (lw_at lw_m4 59 rfl) rfl
theorem q937 : (Jvm.Cond.classLink "LettersOnStrike$Tokens" (188 : Nat) "LettersOnStrike$Compared") ∈ lw_all := lw_g (lw_at lw_m4 60 rfl) rfl
theorem q938 : (Jvm.Cond.instantiable "LettersOnStrike$Compared" (3 : Nat)) ∈ lw_all := lw_g (lw_at lw_m4 61 rfl) rfl
theorem q939 : (Jvm.Cond.methodLinkNest "LettersOnStrike$Tokens" (190 : Nat) ({ cls := "LettersOnStrike$Compared", name := "<init>", desc := "(ILLettersOnStrike$Sum;LLettersOnStrike$Sum;)V" } : Jvm.MethodName) "LettersOnStrike") ∈ lw_tbl := lw_at lw_m4 62 rfl
theorem q940 : (Jvm.Cond.instanceMethod ({ cls := "LettersOnStrike$Compared", name := "<init>", desc := "(ILLettersOnStrike$Sum;LLettersOnStrike$Sum;)V" } : Jvm.MethodName)) ∈ lw_all := lw_g (lw_at lw_m4 63 rfl) rfl
theorem q941 : (Jvm.Cond.code ({ cls := "LettersOnStrike$Compared", name := "<init>", desc := "(ILLettersOnStrike$Sum;LLettersOnStrike$Sum;)V" } : Jvm.MethodName) prog_5_method_1_code (4 : Nat) (Option.none : Option Jvm.ClassFile.FieldType)) ∈ lw_all := lw_g (lw_at lw_m4 64 rfl) rfl
theorem q942 : (Jvm.Cond.methodLink "LettersOnStrike$Compared" (1 : Nat) ({ cls := "java/lang/Record", name := "<init>", desc := "()V" } : Jvm.MethodName)) ∈ lw_all := lw_g (lw_at lw_m4 65 rfl) rfl
theorem q943 : (Jvm.Cond.fieldLink "LettersOnStrike$Compared" (7 : Nat) "LettersOnStrike$Compared" "sign" "I") ∈ lw_all := lw_g (lw_at lw_m4 66 rfl) rfl
theorem q944 : (Jvm.Cond.fieldLink "LettersOnStrike$Compared" (13 : Nat) "LettersOnStrike$Compared" "a" "LLettersOnStrike$Sum;") ∈ lw_all := lw_g (lw_at lw_m4 67 rfl) rfl
theorem q945 : (Jvm.Cond.fieldLink "LettersOnStrike$Compared" (17 : Nat) "LettersOnStrike$Compared" "b" "LLettersOnStrike$Sum;") ∈ lw_all := lw_g (lw_at lw_m4 68 rfl) rfl
theorem q946 : (Jvm.Cond.laysFinal "LettersOnStrike$Compared" "LettersOnStrike$Compared" "sign" "I") ∈ lw_all := lw_g (lw_at lw_m4 69 rfl) rfl
theorem q947 : (Jvm.Cond.soleField "LettersOnStrike$Compared" "sign") ∈ lw_all := lw_g (lw_at lw_m4 70 rfl) rfl
theorem q948 : (Jvm.Cond.laysFinal "LettersOnStrike$Compared" "LettersOnStrike$Compared" "a" "LLettersOnStrike$Sum;") ∈ lw_all := lw_g (lw_at lw_m4 71 rfl) rfl
theorem q949 : (Jvm.Cond.soleField "LettersOnStrike$Compared" "a") ∈ lw_all := lw_g (lw_at lw_m4 72 rfl) rfl
theorem q950 : (Jvm.Cond.laysFinal "LettersOnStrike$Compared" "LettersOnStrike$Compared" "b" "LLettersOnStrike$Sum;") ∈ lw_all := lw_g (lw_at lw_m4 73 rfl) rfl
theorem q951 : (Jvm.Cond.soleField "LettersOnStrike$Compared" "b") ∈ lw_all := lw_g (lw_at lw_m4 74 rfl) rfl
theorem q952 : (Jvm.Cond.superclass "LettersOnStrike$Compared" "java/lang/Record") ∈ lw_all := lw_g (lw_at lw_m4 75 rfl) rfl
theorem q953 : (Jvm.Cond.methodLink "LettersOnStrike$Tokens" (127 : Nat) ({ cls := "java/util/ArrayList", name := "add", desc := "(Ljava/lang/Object;)Z" } : Jvm.MethodName)) ∈ lw_all := lw_g (lw_at lw_m4 76 rfl) rfl
theorem q954 : (Jvm.Cond.methodLink "LettersOnStrike$Tokens" (164 : Nat) ({ cls := "java/util/ArrayList", name := "size", desc := "()I" } : Jvm.MethodName)) ∈ lw_all := lw_g (lw_at lw_m4 77 rfl) rfl
theorem q955 : (Jvm.Cond.instanceMethod ({ cls := "java/util/ArrayList", name := "size", desc := "()I" } : Jvm.MethodName)) ∈ lw_all := lw_g (lw_at lw_m4 78 rfl) rfl
theorem q956 : (Jvm.Cond.selects "java/util/ArrayList" ({ cls := "java/util/ArrayList", name := "size", desc := "()I" } : Jvm.MethodName) ({ cls := "java/util/ArrayList", name := "size", desc := "()I" } : Jvm.MethodName)) ∈ lw_all := lw_g (lw_at lw_m4 79 rfl) rfl
theorem q957 : (Jvm.Cond.code ({ cls := "java/util/ArrayList", name := "size", desc := "()I" } : Jvm.MethodName) prog_40_method_8_code (1 : Nat) (Option.some Jvm.ClassFile.FieldType.int)) ∈ lw_all := lw_g (lw_at lw_m4 80 rfl) rfl
theorem q958 : (Jvm.Cond.methodLink "LettersOnStrike$Tokens" (166 : Nat) ({ cls := "java/util/ArrayList", name := "get", desc := "(I)Ljava/lang/Object;" } : Jvm.MethodName)) ∈ lw_all := lw_g (lw_at lw_m4 81 rfl) rfl
theorem q959 : (Jvm.Cond.instanceMethod ({ cls := "java/util/ArrayList", name := "get", desc := "(I)Ljava/lang/Object;" } : Jvm.MethodName)) ∈ lw_all := lw_g (lw_at lw_m4 82 rfl) rfl
theorem q960 : (Jvm.Cond.selects "java/util/ArrayList" ({ cls := "java/util/ArrayList", name := "get", desc := "(I)Ljava/lang/Object;" } : Jvm.MethodName) ({ cls := "java/util/ArrayList", name := "get", desc := "(I)Ljava/lang/Object;" } : Jvm.MethodName)) ∈ lw_all := lw_g (lw_at lw_m4 83 rfl) rfl
theorem q961 : (Jvm.Cond.code ({ cls := "java/util/ArrayList", name := "get", desc := "(I)Ljava/lang/Object;" } : Jvm.MethodName) prog_40_method_20_code (2 : Nat) (Option.some (Jvm.ClassFile.FieldType.object "java/lang/Object"))) ∈ lw_all := lw_g (lw_at lw_m4 84 rfl) rfl
theorem q962 : (Jvm.Cond.methodLink "java/util/ArrayList" (118 : Nat) ({ cls := "java/util/Objects", name := "checkIndex", desc := "(II)I" } : Jvm.MethodName)) ∈ lw_all := lw_g (lw_at lw_m4 85 rfl) rfl
theorem q963 : (Jvm.Cond.static ({ cls := "java/util/Objects", name := "checkIndex", desc := "(II)I" } : Jvm.MethodName)) ∈ lw_all := lw_g (lw_at lw_m4 86 rfl) rfl
theorem q964 : (Jvm.Cond.code ({ cls := "java/util/Objects", name := "checkIndex", desc := "(II)I" } : Jvm.MethodName) prog_44_method_17_code (2 : Nat) (Option.some Jvm.ClassFile.FieldType.int)) ∈ lw_all := lw_g (lw_at lw_m4 87 rfl) rfl
theorem q965 : (Jvm.Cond.methodLink "java/util/Objects" (105 : Nat) ({ cls := "jdk/internal/util/Preconditions", name := "checkIndex", desc := "(IILjava/util/function/BiFunction;)I" } : Jvm.MethodName)) ∈ lw_all := lw_g (lw_at lw_m4 88 rfl) rfl
theorem q966 : (Jvm.Cond.methodLink "java/util/ArrayList" (123 : Nat) ({ cls := "java/util/ArrayList", name := "elementData", desc := "(I)Ljava/lang/Object;" } : Jvm.MethodName)) ∈ lw_all := lw_g (lw_at lw_m4 89 rfl) rfl
theorem q967 : (Jvm.Cond.instanceMethod ({ cls := "java/util/ArrayList", name := "elementData", desc := "(I)Ljava/lang/Object;" } : Jvm.MethodName)) ∈ lw_all := lw_g (lw_at lw_m4 90 rfl) rfl
theorem q968 : (Jvm.Cond.selects "java/util/ArrayList" ({ cls := "java/util/ArrayList", name := "elementData", desc := "(I)Ljava/lang/Object;" } : Jvm.MethodName) ({ cls := "java/util/ArrayList", name := "elementData", desc := "(I)Ljava/lang/Object;" } : Jvm.MethodName)) ∈ lw_all := lw_g (lw_at lw_m4 91 rfl) rfl
theorem q969 : (Jvm.Cond.code ({ cls := "java/util/ArrayList", name := "elementData", desc := "(I)Ljava/lang/Object;" } : Jvm.MethodName) prog_40_method_18_code (2 : Nat) (Option.some (Jvm.ClassFile.FieldType.object "java/lang/Object"))) ∈ lw_all := lw_g (lw_at lw_m4 92 rfl) rfl
theorem q970 : (Jvm.Cond.classLink "LettersOnStrike$Tokens" (170 : Nat) "LettersOnStrike$Asked") ∈ lw_all := lw_g (lw_at lw_m4 93 rfl) rfl
theorem q971 : (Jvm.Cond.classLink "LettersOnStrike$Tokens" (172 : Nat) "LettersOnStrike$All") ∈ lw_all := lw_g (lw_at lw_m4 94 rfl) rfl
theorem q972 : (Jvm.Cond.instantiable "LettersOnStrike$All" (2 : Nat)) ∈ lw_all := lw_g (lw_at lw_m4 95 rfl) rfl
theorem q973 : (Jvm.Cond.methodLinkNest "LettersOnStrike$Tokens" (174 : Nat) ({ cls := "LettersOnStrike$All", name := "<init>", desc := "(ZLjava/util/ArrayList;)V" } : Jvm.MethodName) "LettersOnStrike") ∈ lw_tbl := lw_at lw_m4 96 rfl
theorem q974 : (Jvm.Cond.instanceMethod ({ cls := "LettersOnStrike$All", name := "<init>", desc := "(ZLjava/util/ArrayList;)V" } : Jvm.MethodName)) ∈ lw_all := lw_g (lw_at lw_m4 97 rfl) rfl
theorem q975 : (Jvm.Cond.code ({ cls := "LettersOnStrike$All", name := "<init>", desc := "(ZLjava/util/ArrayList;)V" } : Jvm.MethodName) prog_2_method_1_code (3 : Nat) (Option.none : Option Jvm.ClassFile.FieldType)) ∈ lw_all := lw_g (lw_at lw_m4 98 rfl) rfl
theorem q976 : (Jvm.Cond.methodLink "LettersOnStrike$All" (1 : Nat) ({ cls := "java/lang/Record", name := "<init>", desc := "()V" } : Jvm.MethodName)) ∈ lw_all := lw_g (lw_at lw_m4 99 rfl) rfl
theorem q977 : (Jvm.Cond.fieldLink "LettersOnStrike$All" (7 : Nat) "LettersOnStrike$All" "and" "Z") ∈ lw_all := lw_g (lw_at lw_m4 100 rfl) rfl
theorem q978 : (Jvm.Cond.fieldLink "LettersOnStrike$All" (13 : Nat) "LettersOnStrike$All" "of" "Ljava/util/ArrayList;") ∈ lw_all := lw_g (lw_at lw_m4 101 rfl) rfl
theorem q979 : (Jvm.Cond.laysFinal "LettersOnStrike$All" "LettersOnStrike$All" "and" "Z") ∈ lw_all := lw_g (lw_at lw_m4 102 rfl) rfl
theorem q980 : (Jvm.Cond.soleField "LettersOnStrike$All" "and") ∈ lw_all := lw_g (lw_at lw_m4 103 rfl) rfl
theorem q981 : (Jvm.Cond.laysFinal "LettersOnStrike$All" "LettersOnStrike$All" "of" "Ljava/util/ArrayList;") ∈ lw_all := lw_g (lw_at lw_m4 104 rfl) rfl
theorem q982 : (Jvm.Cond.soleField "LettersOnStrike$All" "of") ∈ lw_all := lw_g (lw_at lw_m4 105 rfl) rfl
theorem q983 : (Jvm.Cond.superclass "LettersOnStrike$All" "java/lang/Record") ∈ lw_all := lw_g (lw_at lw_m4 106 rfl) rfl
theorem q984 : (Jvm.Cond.methodLink "LettersOnStrike$Tokens" (123 : Nat) ({ cls := "LettersOnStrike$Tokens", name := "doing", desc := "(I)LLettersOnStrike$Doing;" } : Jvm.MethodName)) ∈ lw_all := lw_g (lw_at lw_m4 107 rfl) rfl
theorem q985 : (Jvm.Cond.privateMethod ({ cls := "LettersOnStrike$Tokens", name := "doing", desc := "(I)LLettersOnStrike$Doing;" } : Jvm.MethodName)) ∈ lw_tbl := lw_at lw_m4 108 rfl
theorem q986 : (Jvm.Cond.instanceMethod ({ cls := "LettersOnStrike$Tokens", name := "doing", desc := "(I)LLettersOnStrike$Doing;" } : Jvm.MethodName)) ∈ lw_all := lw_g (lw_at lw_m4 109 rfl) rfl
theorem q987 : (Jvm.Cond.code ({ cls := "LettersOnStrike$Tokens", name := "doing", desc := "(I)LLettersOnStrike$Doing;" } : Jvm.MethodName) prog_14_method_15_code (3 : Nat) (Option.some (Jvm.ClassFile.FieldType.object "LettersOnStrike$Doing"))) ∈ lw_all := lw_g (lw_at lw_m4 110 rfl) rfl
theorem q988 : (Jvm.Cond.methodLink "LettersOnStrike$Tokens" (141 : Nat) ({ cls := "LettersOnStrike$Tokens", name := "letters", desc := "()[I" } : Jvm.MethodName)) ∈ lw_all := lw_g (lw_at lw_m4 111 rfl) rfl
theorem q989 : (Jvm.Cond.privateMethod ({ cls := "LettersOnStrike$Tokens", name := "letters", desc := "()[I" } : Jvm.MethodName)) ∈ lw_tbl := lw_at lw_m4 112 rfl
theorem q990 : (Jvm.Cond.instanceMethod ({ cls := "LettersOnStrike$Tokens", name := "letters", desc := "()[I" } : Jvm.MethodName)) ∈ lw_all := lw_g (lw_at lw_m4 113 rfl) rfl
theorem q991 : (Jvm.Cond.code ({ cls := "LettersOnStrike$Tokens", name := "letters", desc := "()[I" } : Jvm.MethodName) prog_14_method_12_code (4 : Nat) (Option.some (Jvm.ClassFile.FieldType.array Jvm.ClassFile.FieldType.int))) ∈ lw_all := lw_g (lw_at lw_m4 114 rfl) rfl
theorem q992 : (Jvm.Cond.classLink "LettersOnStrike$Tokens" (145 : Nat) "LettersOnStrike$Doing") ∈ lw_all := lw_g (lw_at lw_m4 115 rfl) rfl
theorem q993 : (Jvm.Cond.instantiable "LettersOnStrike$Doing" (5 : Nat)) ∈ lw_all := lw_g (lw_at lw_m4 116 rfl) rfl
theorem q994 : (Jvm.Cond.methodLink "LettersOnStrike$Tokens" (147 : Nat) ({ cls := "LettersOnStrike$Tokens", name := "behind", desc := "(III)I" } : Jvm.MethodName)) ∈ lw_all := lw_g (lw_at lw_m4 117 rfl) rfl
theorem q995 : (Jvm.Cond.privateMethod ({ cls := "LettersOnStrike$Tokens", name := "behind", desc := "(III)I" } : Jvm.MethodName)) ∈ lw_tbl := lw_at lw_m4 118 rfl
theorem q996 : (Jvm.Cond.instanceMethod ({ cls := "LettersOnStrike$Tokens", name := "behind", desc := "(III)I" } : Jvm.MethodName)) ∈ lw_all := lw_g (lw_at lw_m4 119 rfl) rfl
theorem q997 : (Jvm.Cond.code ({ cls := "LettersOnStrike$Tokens", name := "behind", desc := "(III)I" } : Jvm.MethodName) prog_14_method_13_code (4 : Nat) (Option.some Jvm.ClassFile.FieldType.int)) ∈ lw_all := lw_g (lw_at lw_m4 120 rfl) rfl
theorem q998 : (Jvm.Cond.methodLinkNest "LettersOnStrike$Tokens" (151 : Nat) ({ cls := "LettersOnStrike$Doing", name := "<init>", desc := "(I[I[III)V" } : Jvm.MethodName) "LettersOnStrike") ∈ lw_tbl := lw_at lw_m4 121 rfl
theorem q999 : (Jvm.Cond.instanceMethod ({ cls := "LettersOnStrike$Doing", name := "<init>", desc := "(I[I[III)V" } : Jvm.MethodName)) ∈ lw_all := lw_g (lw_at lw_m4 122 rfl) rfl
theorem q1000 : (Jvm.Cond.code ({ cls := "LettersOnStrike$Doing", name := "<init>", desc := "(I[I[III)V" } : Jvm.MethodName) prog_6_method_1_code (6 : Nat) (Option.none : Option Jvm.ClassFile.FieldType)) ∈ lw_all := lw_g (lw_at lw_m4 123 rfl) rfl
theorem q1001 : (Jvm.Cond.methodLink "LettersOnStrike$Doing" (1 : Nat) ({ cls := "java/lang/Record", name := "<init>", desc := "()V" } : Jvm.MethodName)) ∈ lw_all := lw_g (lw_at lw_m4 124 rfl) rfl
theorem q1002 : (Jvm.Cond.fieldLink "LettersOnStrike$Doing" (7 : Nat) "LettersOnStrike$Doing" "sort" "I") ∈ lw_all := lw_g (lw_at lw_m4 125 rfl) rfl
theorem q1003 : (Jvm.Cond.fieldLink "LettersOnStrike$Doing" (13 : Nat) "LettersOnStrike$Doing" "letters" "[I") ∈ lw_all := lw_g (lw_at lw_m4 126 rfl) rfl
theorem q1004 : (Jvm.Cond.fieldLink "LettersOnStrike$Doing" (17 : Nat) "LettersOnStrike$Doing" "more" "[I") ∈ lw_all := lw_g (lw_at lw_m4 127 rfl) rfl
theorem q1005 : (Jvm.Cond.fieldLink "LettersOnStrike$Doing" (20 : Nat) "LettersOnStrike$Doing" "a" "I") ∈ lw_all := lw_g (lw_at lw_m4 128 rfl) rfl
theorem q1006 : (Jvm.Cond.fieldLink "LettersOnStrike$Doing" (23 : Nat) "LettersOnStrike$Doing" "number" "I") ∈ lw_all := lw_g (lw_at lw_m4 129 rfl) rfl
theorem q1007 : (Jvm.Cond.laysFinal "LettersOnStrike$Doing" "LettersOnStrike$Doing" "sort" "I") ∈ lw_all := lw_g (lw_at lw_m4 130 rfl) rfl
theorem q1008 : (Jvm.Cond.soleField "LettersOnStrike$Doing" "sort") ∈ lw_all := lw_g (lw_at lw_m4 131 rfl) rfl
theorem q1009 : (Jvm.Cond.laysFinal "LettersOnStrike$Doing" "LettersOnStrike$Doing" "letters" "[I") ∈ lw_all := lw_g (lw_at lw_m4 132 rfl) rfl
theorem q1010 : (Jvm.Cond.soleField "LettersOnStrike$Doing" "letters") ∈ lw_all := lw_g (lw_at lw_m4 133 rfl) rfl
theorem q1011 : (Jvm.Cond.laysFinal "LettersOnStrike$Doing" "LettersOnStrike$Doing" "more" "[I") ∈ lw_all := lw_g (lw_at lw_m4 134 rfl) rfl
theorem q1012 : (Jvm.Cond.soleField "LettersOnStrike$Doing" "more") ∈ lw_all := lw_g (lw_at lw_m4 135 rfl) rfl
theorem q1013 : (Jvm.Cond.laysFinal "LettersOnStrike$Doing" "LettersOnStrike$Doing" "a" "I") ∈ lw_all := lw_g (lw_at lw_m4 136 rfl) rfl
theorem q1014 : (Jvm.Cond.soleField "LettersOnStrike$Doing" "a") ∈ lw_all := lw_g (lw_at lw_m4 137 rfl) rfl
theorem q1015 : (Jvm.Cond.laysFinal "LettersOnStrike$Doing" "LettersOnStrike$Doing" "number" "I") ∈ lw_all := lw_g (lw_at lw_m4 138 rfl) rfl
theorem q1016 : (Jvm.Cond.soleField "LettersOnStrike$Doing" "number") ∈ lw_all := lw_g (lw_at lw_m4 139 rfl) rfl
theorem q1017 : (Jvm.Cond.superclass "LettersOnStrike$Doing" "java/lang/Record") ∈ lw_all := lw_g (lw_at lw_m4 140 rfl) rfl
theorem q1018 : (Jvm.Cond.methodLink "LettersOnStrike$Tokens" (154 : Nat) ({ cls := "LettersOnStrike$Tokens", name := "senses", desc := "()[I" } : Jvm.MethodName)) ∈ lw_all := lw_g (lw_at lw_m4 141 rfl) rfl
theorem q1019 : (Jvm.Cond.privateMethod ({ cls := "LettersOnStrike$Tokens", name := "senses", desc := "()[I" } : Jvm.MethodName)) ∈ lw_tbl := lw_at lw_m4 142 rfl
theorem q1020 : (Jvm.Cond.instanceMethod ({ cls := "LettersOnStrike$Tokens", name := "senses", desc := "()[I" } : Jvm.MethodName)) ∈ lw_all := lw_g (lw_at lw_m4 143 rfl) rfl
theorem q1021 : (Jvm.Cond.code ({ cls := "LettersOnStrike$Tokens", name := "senses", desc := "()[I" } : Jvm.MethodName) prog_14_method_14_code (5 : Nat) (Option.some (Jvm.ClassFile.FieldType.array Jvm.ClassFile.FieldType.int))) ∈ lw_all := lw_g (lw_at lw_m4 144 rfl) rfl
theorem q1022 : (Jvm.Cond.methodLink "LettersOnStrike$Tokens" (135 : Nat) ({ cls := "java/util/Arrays", name := "copyOf", desc := "([II)[I" } : Jvm.MethodName)) ∈ lw_all := lw_g (lw_at lw_m4 145 rfl) rfl
theorem q1023 : (Jvm.Cond.static ({ cls := "java/util/Arrays", name := "copyOf", desc := "([II)[I" } : Jvm.MethodName)) ∈ lw_all := lw_g (lw_at lw_m4 146 rfl) rfl
theorem q1024 : (Jvm.Cond.code ({ cls := "java/util/Arrays", name := "copyOf", desc := "([II)[I" } : Jvm.MethodName) prog_41_method_123_code (3 : Nat) (Option.some (Jvm.ClassFile.FieldType.array Jvm.ClassFile.FieldType.int))) ∈ lw_all := lw_g (lw_at lw_m4 147 rfl) rfl
theorem q1025 : (Jvm.Cond.methodLink "java/util/Arrays" (316 : Nat) ({ cls := "[I", name := "clone", desc := "()Ljava/lang/Object;" } : Jvm.MethodName)) ∈ lw_all := lw_g (lw_at lw_m4 148 rfl) rfl
theorem q1026 : (Jvm.Cond.sameMethod "[I" "java/lang/Object" "clone" "()Ljava/lang/Object;") ∈ lw_all := lw_g (lw_at lw_m4 149 rfl) rfl
theorem q1027 : (Jvm.Cond.native ({ cls := "java/lang/Object", name := "clone", desc := "()Ljava/lang/Object;" } : Jvm.MethodName)) ∈ lw_all := lw_g (lw_at lw_m4 150 rfl) rfl
theorem q1028 : (Jvm.Cond.instanceMethod ({ cls := "java/lang/Object", name := "clone", desc := "()Ljava/lang/Object;" } : Jvm.MethodName)) ∈ lw_all := lw_g (lw_at lw_m4 151 rfl) rfl
theorem q1029 : (Jvm.Cond.selects "[I" ({ cls := "[I", name := "clone", desc := "()Ljava/lang/Object;" } : Jvm.MethodName) ({ cls := "java/lang/Object", name := "clone", desc := "()Ljava/lang/Object;" } : Jvm.MethodName)) ∈ lw_all := lw_g (lw_at lw_m4 152 rfl) rfl
theorem q1030 : (Jvm.Cond.castable "[I" "java/lang/Cloneable") ∈ lw_tbl := lw_at lw_m4 153 rfl
theorem q1031 : (Jvm.Cond.classLink "java/util/Arrays" (317 : Nat) "[I") ∈ lw_all := lw_g (lw_at lw_m4 154 rfl) rfl
theorem q1032 : (Jvm.Cond.methodLink "LettersOnStrike$Tokens" (157 : Nat) ({ cls := "LettersOnStrike$Tokens", name := "sign", desc := "(I)LLettersOnStrike$Doing;" } : Jvm.MethodName)) ∈ lw_all := lw_g (lw_at lw_m4 155 rfl) rfl
theorem q1033 : (Jvm.Cond.privateMethod ({ cls := "LettersOnStrike$Tokens", name := "sign", desc := "(I)LLettersOnStrike$Doing;" } : Jvm.MethodName)) ∈ lw_tbl := lw_at lw_m4 156 rfl
theorem q1034 : (Jvm.Cond.instanceMethod ({ cls := "LettersOnStrike$Tokens", name := "sign", desc := "(I)LLettersOnStrike$Doing;" } : Jvm.MethodName)) ∈ lw_all := lw_g (lw_at lw_m4 157 rfl) rfl
theorem q1035 : (Jvm.Cond.code ({ cls := "LettersOnStrike$Tokens", name := "sign", desc := "(I)LLettersOnStrike$Doing;" } : Jvm.MethodName) prog_14_method_16_code (3 : Nat) (Option.some (Jvm.ClassFile.FieldType.object "LettersOnStrike$Doing"))) ∈ lw_all := lw_g (lw_at lw_m4 158 rfl) rfl
theorem q1036 : (Jvm.Cond.methodLink "LettersOnStrikeLaw" (42 : Nat) ({ cls := "LettersOnStrike", name := "fault", desc := "(I)I" } : Jvm.MethodName)) ∈ lw_all := lw_g (lw_at lw_m4 159 rfl) rfl
theorem q1037 : (Jvm.Cond.instanceMethod ({ cls := "LettersOnStrike", name := "fault", desc := "(I)I" } : Jvm.MethodName)) ∈ lw_all := lw_g (lw_at lw_m4 160 rfl) rfl
theorem q1038 : (Jvm.Cond.selects "LettersOnStrike" ({ cls := "LettersOnStrike", name := "fault", desc := "(I)I" } : Jvm.MethodName) ({ cls := "LettersOnStrike", name := "fault", desc := "(I)I" } : Jvm.MethodName)) ∈ lw_all := lw_g (lw_at lw_m4 161 rfl) rfl
theorem q1039 : (Jvm.Cond.code ({ cls := "LettersOnStrike", name := "fault", desc := "(I)I" } : Jvm.MethodName) prog_1_method_18_code (2 : Nat) (Option.some Jvm.ClassFile.FieldType.int)) ∈ lw_all := lw_g (lw_at lw_m4 162 rfl) rfl
theorem q1040 : (Jvm.Cond.methodLink "LettersOnStrikeLaw" (46 : Nat) ({ cls := "LettersOnStrike", name := "by", desc := "(I)Z" } : Jvm.MethodName)) ∈ lw_all := lw_g (lw_at lw_m4 163 rfl) rfl
theorem q1041 : (Jvm.Cond.instanceMethod ({ cls := "LettersOnStrike", name := "by", desc := "(I)Z" } : Jvm.MethodName)) ∈ lw_all := lw_g (lw_at lw_m4 164 rfl) rfl
theorem q1042 : (Jvm.Cond.selects "LettersOnStrike" ({ cls := "LettersOnStrike", name := "by", desc := "(I)Z" } : Jvm.MethodName) ({ cls := "LettersOnStrike", name := "by", desc := "(I)Z" } : Jvm.MethodName)) ∈ lw_all := lw_g (lw_at lw_m4 165 rfl) rfl
theorem q1043 : (Jvm.Cond.code ({ cls := "LettersOnStrike", name := "by", desc := "(I)Z" } : Jvm.MethodName) prog_1_method_20_code (2 : Nat) (Option.some Jvm.ClassFile.FieldType.boolean)) ∈ lw_all := lw_g (lw_at lw_m4 166 rfl) rfl
theorem q1044 : (Jvm.Cond.methodLink "LettersOnStrike" (142 : Nat) ({ cls := "LettersOnStrike", name := "isText", desc := "(I)Z" } : Jvm.MethodName)) ∈ lw_all := lw_g (lw_at lw_m4 167 rfl) rfl
theorem q1045 : (Jvm.Cond.privateMethod ({ cls := "LettersOnStrike", name := "isText", desc := "(I)Z" } : Jvm.MethodName)) ∈ lw_tbl := lw_at lw_m4 168 rfl
theorem q1046 : (Jvm.Cond.instanceMethod ({ cls := "LettersOnStrike", name := "isText", desc := "(I)Z" } : Jvm.MethodName)) ∈ lw_all := lw_g (lw_at lw_m4 169 rfl) rfl
theorem q1047 : (Jvm.Cond.code ({ cls := "LettersOnStrike", name := "isText", desc := "(I)Z" } : Jvm.MethodName) prog_1_method_19_code (2 : Nat) (Option.some Jvm.ClassFile.FieldType.boolean)) ∈ lw_all := lw_g (lw_at lw_m4 170 rfl) rfl
theorem q1048 : (Jvm.Cond.methodLink "LettersOnStrikeLaw" (51 : Nat) ({ cls := "LettersOnStrike", name := "morning", desc := "(I)I" } : Jvm.MethodName)) ∈ lw_all := lw_g (lw_at lw_m4 171 rfl) rfl
theorem q1049 : (Jvm.Cond.instanceMethod ({ cls := "LettersOnStrike", name := "morning", desc := "(I)I" } : Jvm.MethodName)) ∈ lw_all := lw_g (lw_at lw_m4 172 rfl) rfl
theorem q1050 : (Jvm.Cond.selects "LettersOnStrike" ({ cls := "LettersOnStrike", name := "morning", desc := "(I)I" } : Jvm.MethodName) ({ cls := "LettersOnStrike", name := "morning", desc := "(I)I" } : Jvm.MethodName)) ∈ lw_all := lw_g (lw_at lw_m4 173 rfl) rfl
theorem q1051 : (Jvm.Cond.code ({ cls := "LettersOnStrike", name := "morning", desc := "(I)I" } : Jvm.MethodName) prog_1_method_29_code (3 : Nat) (Option.some Jvm.ClassFile.FieldType.int)) ∈ lw_all := lw_g (lw_at lw_m4 174 rfl) rfl
theorem q1052 : (Jvm.Cond.methodLink "LettersOnStrike" (228 : Nat) ({ cls := "LettersOnStrike$State", name := "keeps", desc := "()V" } : Jvm.MethodName)) ∈ lw_all := lw_g (lw_at lw_m4 175 rfl) rfl
theorem q1053 : (Jvm.Cond.instanceMethod ({ cls := "LettersOnStrike$State", name := "keeps", desc := "()V" } : Jvm.MethodName)) ∈ lw_all := lw_g (lw_at lw_m4 176 rfl) rfl
theorem q1054 : (Jvm.Cond.selects "LettersOnStrike$State" ({ cls := "LettersOnStrike$State", name := "keeps", desc := "()V" } : Jvm.MethodName) ({ cls := "LettersOnStrike$State", name := "keeps", desc := "()V" } : Jvm.MethodName)) ∈ lw_all := lw_g (lw_at lw_m4 177 rfl) rfl
theorem q1055 : (Jvm.Cond.code ({ cls := "LettersOnStrike$State", name := "keeps", desc := "()V" } : Jvm.MethodName) prog_11_method_5_code (2 : Nat) (Option.none : Option Jvm.ClassFile.FieldType)) ∈ lw_all := lw_g (lw_at lw_m4 178 rfl) rfl
theorem q1056 : (Jvm.Cond.methodLink "LettersOnStrike" (231 : Nat) ({ cls := "LettersOnStrike", name := "mornings", desc := "()V" } : Jvm.MethodName)) ∈ lw_all := lw_g (lw_at lw_m4 179 rfl) rfl
theorem q1057 : (Jvm.Cond.privateMethod ({ cls := "LettersOnStrike", name := "mornings", desc := "()V" } : Jvm.MethodName)) ∈ lw_tbl := lw_at lw_m4 180 rfl
theorem q1058 : (Jvm.Cond.instanceMethod ({ cls := "LettersOnStrike", name := "mornings", desc := "()V" } : Jvm.MethodName)) ∈ lw_all := lw_g (lw_at lw_m4 181 rfl) rfl
theorem q1059 : (Jvm.Cond.code ({ cls := "LettersOnStrike", name := "mornings", desc := "()V" } : Jvm.MethodName) prog_1_method_28_code (3 : Nat) (Option.none : Option Jvm.ClassFile.FieldType)) ∈ lw_all := lw_g (lw_at lw_m4 182 rfl) rfl
theorem q1060 : (Jvm.Cond.methodLink "LettersOnStrike" (222 : Nat) ({ cls := "LettersOnStrike", name := "changes", desc := "(I)Z" } : Jvm.MethodName)) ∈ lw_all := lw_g (lw_at lw_m4 183 rfl) rfl
theorem q1061 : (Jvm.Cond.privateMethod ({ cls := "LettersOnStrike", name := "changes", desc := "(I)Z" } : Jvm.MethodName)) ∈ lw_tbl := lw_at lw_m4 184 rfl
theorem q1062 : (Jvm.Cond.instanceMethod ({ cls := "LettersOnStrike", name := "changes", desc := "(I)Z" } : Jvm.MethodName)) ∈ lw_all := lw_g (lw_at lw_m4 185 rfl) rfl
theorem q1063 : (Jvm.Cond.code ({ cls := "LettersOnStrike", name := "changes", desc := "(I)Z" } : Jvm.MethodName) prog_1_method_26_code (6 : Nat) (Option.some Jvm.ClassFile.FieldType.boolean)) ∈ lw_all := lw_g (lw_at lw_m4 186 rfl) rfl
theorem q1064 : (Jvm.Cond.methodLink "LettersOnStrike" (165 : Nat) ({ cls := "LettersOnStrike$State", name := "isOut", desc := "(I)Z" } : Jvm.MethodName)) ∈ lw_all := lw_g (lw_at lw_m4 187 rfl) rfl
theorem q1065 : (Jvm.Cond.instanceMethod ({ cls := "LettersOnStrike$State", name := "isOut", desc := "(I)Z" } : Jvm.MethodName)) ∈ lw_all := lw_g (lw_at lw_m4 188 rfl) rfl
theorem q1066 : (Jvm.Cond.selects "LettersOnStrike$State" ({ cls := "LettersOnStrike$State", name := "isOut", desc := "(I)Z" } : Jvm.MethodName) ({ cls := "LettersOnStrike$State", name := "isOut", desc := "(I)Z" } : Jvm.MethodName)) ∈ lw_all := lw_g (lw_at lw_m4 189 rfl) rfl
theorem q1067 : (Jvm.Cond.code ({ cls := "LettersOnStrike$State", name := "isOut", desc := "(I)Z" } : Jvm.MethodName) prog_11_method_6_code (2 : Nat) (Option.some Jvm.ClassFile.FieldType.boolean)) ∈ lw_all := lw_g (lw_at lw_m4 190 rfl) rfl
theorem q1068 : (Jvm.Cond.methodLinkNest "LettersOnStrike$State" (67 : Nat) ({ cls := "LettersOnStrike", name := "has", desc := "(II)Z" } : Jvm.MethodName) "LettersOnStrike") ∈ lw_tbl := lw_at lw_m4 191 rfl
theorem q1069 : (Jvm.Cond.methodLink "LettersOnStrike" (168 : Nat) ({ cls := "LettersOnStrike", name := "rules", desc := "()LLettersOnStrike$Text;" } : Jvm.MethodName)) ∈ lw_all := lw_g (lw_at lw_m4 192 rfl) rfl
theorem q1070 : (Jvm.Cond.privateMethod ({ cls := "LettersOnStrike", name := "rules", desc := "()LLettersOnStrike$Text;" } : Jvm.MethodName)) ∈ lw_tbl := lw_at lw_m4 193 rfl
theorem q1071 : (Jvm.Cond.instanceMethod ({ cls := "LettersOnStrike", name := "rules", desc := "()LLettersOnStrike$Text;" } : Jvm.MethodName)) ∈ lw_all := lw_g (lw_at lw_m4 194 rfl) rfl
theorem q1072 : (Jvm.Cond.code ({ cls := "LettersOnStrike", name := "rules", desc := "()LLettersOnStrike$Text;" } : Jvm.MethodName) prog_1_method_21_code (1 : Nat) (Option.some (Jvm.ClassFile.FieldType.object "LettersOnStrike$Text"))) ∈ lw_all := lw_g (lw_at lw_m4 195 rfl) rfl
theorem q1073 : (Jvm.Cond.fieldLink "LettersOnStrike" (145 : Nat) "LettersOnStrike" "NOTHING" "LLettersOnStrike$Text;") ∈ lw_all := lw_g (lw_at lw_m4 196 rfl) rfl
theorem q1074 : (Jvm.Cond.laysStatic "LettersOnStrike" "NOTHING" "LLettersOnStrike$Text;") ∈ lw_tbl := lw_at lw_m4 197 rfl
theorem q1075 : (Jvm.Cond.methodLink "LettersOnStrike" (180 : Nat) ({ cls := "LettersOnStrike", name := "tiedOf", desc := "(I)I" } : Jvm.MethodName)) ∈ lw_all := lw_g (lw_at lw_m4 198 rfl) rfl
theorem q1076 : (Jvm.Cond.privateMethod ({ cls := "LettersOnStrike", name := "tiedOf", desc := "(I)I" } : Jvm.MethodName)) ∈ lw_tbl := lw_at lw_m4 199 rfl
theorem q1077 : (Jvm.Cond.instanceMethod ({ cls := "LettersOnStrike", name := "tiedOf", desc := "(I)I" } : Jvm.MethodName)) ∈ lw_all := lw_g (lw_at lw_m4 200 rfl) rfl
theorem q1078 : (Jvm.Cond.code ({ cls := "LettersOnStrike", name := "tiedOf", desc := "(I)I" } : Jvm.MethodName) prog_1_method_25_code (2 : Nat) (Option.some Jvm.ClassFile.FieldType.int)) ∈ lw_all := lw_g (lw_at lw_m4 201 rfl) rfl
theorem q1079 : (Jvm.Cond.methodLink "LettersOnStrike" (152 : Nat) ({ cls := "java/lang/Integer", name := "bitCount", desc := "(I)I" } : Jvm.MethodName)) ∈ lw_all := lw_g (lw_at lw_m4 202 rfl) rfl
theorem q1080 : (Jvm.Cond.static ({ cls := "java/lang/Integer", name := "bitCount", desc := "(I)I" } : Jvm.MethodName)) ∈ lw_all := lw_g (lw_at lw_m4 203 rfl) rfl
theorem q1081 : (Jvm.Cond.code ({ cls := "java/lang/Integer", name := "bitCount", desc := "(I)I" } : Jvm.MethodName) prog_24_method_49_code (1 : Nat) (Option.some Jvm.ClassFile.FieldType.int)) ∈ lw_all := lw_g (lw_at lw_m4 204 rfl) rfl
theorem q1082 : (Jvm.Cond.constant "java/lang/Integer" (265 : Nat) (1431655765 : Int32)) ∈ lw_all := lw_g (lw_at lw_m4 205 rfl) rfl
theorem q1083 : (Jvm.Cond.constant "java/lang/Integer" (266 : Nat) (858993459 : Int32)) ∈ lw_all := lw_g (lw_at lw_m4 206 rfl) rfl
theorem q1084 : (Jvm.Cond.constant "java/lang/Integer" (267 : Nat) (252645135 : Int32)) ∈ lw_all := lw_g (lw_at lw_m4 207 rfl) rfl
theorem q1085 : (Jvm.Cond.methodLink "LettersOnStrike" (183 : Nat) ({ cls := "LettersOnStrike", name := "names", desc := "()V" } : Jvm.MethodName)) ∈ lw_all := lw_g (lw_at lw_m4 208 rfl) rfl
theorem q1086 : (Jvm.Cond.privateMethod ({ cls := "LettersOnStrike", name := "names", desc := "()V" } : Jvm.MethodName)) ∈ lw_tbl := lw_at lw_m4 209 rfl
theorem q1087 : (Jvm.Cond.instanceMethod ({ cls := "LettersOnStrike", name := "names", desc := "()V" } : Jvm.MethodName)) ∈ lw_all := lw_g (lw_at lw_m4 210 rfl) rfl
theorem q1088 : (Jvm.Cond.code ({ cls := "LettersOnStrike", name := "names", desc := "()V" } : Jvm.MethodName) prog_1_method_23_code (1 : Nat) (Option.none : Option Jvm.ClassFile.FieldType)) ∈ lw_all := lw_g (lw_at lw_m4 211 rfl) rfl
theorem q1089 : (Jvm.Cond.methodLink "LettersOnStrike" (158 : Nat) ({ cls := "LettersOnStrike", name := "outs", desc := "()I" } : Jvm.MethodName)) ∈ lw_all := lw_g (lw_at lw_m4 212 rfl) rfl
theorem q1090 : (Jvm.Cond.privateMethod ({ cls := "LettersOnStrike", name := "outs", desc := "()I" } : Jvm.MethodName)) ∈ lw_tbl := lw_at lw_m4 213 rfl
theorem q1091 : (Jvm.Cond.instanceMethod ({ cls := "LettersOnStrike", name := "outs", desc := "()I" } : Jvm.MethodName)) ∈ lw_all := lw_g (lw_at lw_m4 214 rfl) rfl
theorem q1092 : (Jvm.Cond.code ({ cls := "LettersOnStrike", name := "outs", desc := "()I" } : Jvm.MethodName) prog_1_method_22_code (1 : Nat) (Option.some Jvm.ClassFile.FieldType.int)) ∈ lw_all := lw_g (lw_at lw_m4 215 rfl) rfl
theorem q1093 : (Jvm.Cond.constant "LettersOnStrike" (185 : Nat) (1065233 : Int32)) ∈ lw_all := lw_g (lw_at lw_m4 216 rfl) rfl
theorem q1094 : (Jvm.Cond.methodLink "LettersOnStrike" (186 : Nat) ({ cls := "LettersOnStrike", name := "usesOf", desc := "(I)I" } : Jvm.MethodName)) ∈ lw_all := lw_g (lw_at lw_m4 217 rfl) rfl
theorem q1095 : (Jvm.Cond.privateMethod ({ cls := "LettersOnStrike", name := "usesOf", desc := "(I)I" } : Jvm.MethodName)) ∈ lw_tbl := lw_at lw_m4 218 rfl
theorem q1096 : (Jvm.Cond.instanceMethod ({ cls := "LettersOnStrike", name := "usesOf", desc := "(I)I" } : Jvm.MethodName)) ∈ lw_all := lw_g (lw_at lw_m4 219 rfl) rfl
theorem q1097 : (Jvm.Cond.code ({ cls := "LettersOnStrike", name := "usesOf", desc := "(I)I" } : Jvm.MethodName) prog_1_method_24_code (4 : Nat) (Option.some Jvm.ClassFile.FieldType.int)) ∈ lw_all := lw_g (lw_at lw_m4 220 rfl) rfl
theorem q1098 : (Jvm.Cond.methodLink "LettersOnStrike" (162 : Nat) ({ cls := "LettersOnStrike$Word", name := "bits", desc := "()I" } : Jvm.MethodName)) ∈ lw_all := lw_g (lw_at lw_m4 221 rfl) rfl
theorem q1099 : (Jvm.Cond.instanceMethod ({ cls := "LettersOnStrike$Word", name := "bits", desc := "()I" } : Jvm.MethodName)) ∈ lw_all := lw_g (lw_at lw_m4 222 rfl) rfl
theorem q1100 : (Jvm.Cond.selects "LettersOnStrike$Word" ({ cls := "LettersOnStrike$Word", name := "bits", desc := "()I" } : Jvm.MethodName) ({ cls := "LettersOnStrike$Word", name := "bits", desc := "()I" } : Jvm.MethodName)) ∈ lw_all := lw_g (lw_at lw_m4 223 rfl) rfl
theorem q1101 : (Jvm.Cond.code ({ cls := "LettersOnStrike$Word", name := "bits", desc := "()I" } : Jvm.MethodName) prog_15_method_7_code (1 : Nat) (Option.some Jvm.ClassFile.FieldType.int)) ∈ lw_all := lw_g (lw_at lw_m4 224 rfl) rfl
theorem q1102 : (Jvm.Cond.interfaceEntry "LettersOnStrike" (189 : Nat)) ∈ lw_tbl := lw_at lw_m4 225 rfl
theorem q1103 : (Jvm.Cond.methodLink "LettersOnStrike" (189 : Nat) ({ cls := "LettersOnStrike$Asked", name := "is", desc := "([I)Z" } : Jvm.MethodName)) ∈ lw_all := lw_g (lw_at lw_m4 226 rfl) rfl
theorem q1104 : (Jvm.Cond.interfaceMethod "LettersOnStrike$Asked" "LettersOnStrike$Asked" "is" "([I)Z") ∈ lw_tbl := lw_at lw_m4 227 rfl
theorem q1105 : (Jvm.Cond.declares ({ cls := "LettersOnStrike$Asked", name := "is", desc := "([I)Z" } : Jvm.MethodName)) ∈ lw_tbl := lw_at lw_m4 228 rfl
theorem q1106 : (Jvm.Cond.castable "LettersOnStrike$All" "LettersOnStrike$Asked") ∈ lw_tbl := lw_at lw_m4 229 rfl
theorem q1107 : (Jvm.Cond.selects "LettersOnStrike$All" ({ cls := "LettersOnStrike$Asked", name := "is", desc := "([I)Z" } : Jvm.MethodName) ({ cls := "LettersOnStrike$All", name := "is", desc := "([I)Z" } : Jvm.MethodName)) ∈ lw_all := lw_g (lw_at lw_m4 230 rfl) rfl
theorem q1108 : (Jvm.Cond.unhidden "LettersOnStrike$All" "is" "([I)Z") ∈ lw_tbl := lw_at lw_m4 231 rfl
theorem q1109 : (Jvm.Cond.instanceMethod ({ cls := "LettersOnStrike$All", name := "is", desc := "([I)Z" } : Jvm.MethodName)) ∈ lw_all := lw_g (lw_at lw_m4 232 rfl) rfl
theorem q1110 : (Jvm.Cond.publicMethod ({ cls := "LettersOnStrike$All", name := "is", desc := "([I)Z" } : Jvm.MethodName)) ∈ lw_tbl := lw_at lw_m4 233 rfl
theorem q1111 : (Jvm.Cond.code ({ cls := "LettersOnStrike$All", name := "is", desc := "([I)Z" } : Jvm.MethodName) prog_2_method_2_code (4 : Nat) (Option.some Jvm.ClassFile.FieldType.boolean)) ∈ lw_all := lw_g (lw_at lw_m4 234 rfl) rfl
theorem q1112 : (Jvm.Cond.methodLink "LettersOnStrike$All" (17 : Nat) ({ cls := "java/util/ArrayList", name := "size", desc := "()I" } : Jvm.MethodName)) ∈ lw_all := lw_g (lw_at lw_m4 235 rfl) rfl
theorem q1113 : (Jvm.Cond.methodLink "LettersOnStrike$All" (23 : Nat) ({ cls := "java/util/ArrayList", name := "get", desc := "(I)Ljava/lang/Object;" } : Jvm.MethodName)) ∈ lw_all := lw_g (lw_at lw_m4 236 rfl) rfl
theorem q1114 : (Jvm.Cond.classLink "LettersOnStrike$All" (27 : Nat) "LettersOnStrike$Asked") ∈ lw_all := lw_g (lw_at lw_m4 237 rfl) rfl
theorem q1115 : (Jvm.Cond.interfaceEntry "LettersOnStrike$All" (29 : Nat)) ∈ lw_tbl := lw_at lw_m4 238 rfl
theorem q1116 : (Jvm.Cond.methodLink "LettersOnStrike$All" (29 : Nat) ({ cls := "LettersOnStrike$Asked", name := "is", desc := "([I)Z" } : Jvm.MethodName)) ∈ lw_all := lw_g (lw_at lw_m4 239 rfl) rfl
theorem q1117 : (Jvm.Cond.castable "LettersOnStrike$Compared" "LettersOnStrike$Asked") ∈ lw_tbl := lw_at lw_m5 0 rfl
theorem q1118 : (Jvm.Cond.selects "LettersOnStrike$Compared" ({ cls := "LettersOnStrike$Asked", name := "is", desc := "([I)Z" } : Jvm.MethodName) ({ cls := "LettersOnStrike$Compared", name := "is", desc := "([I)Z" } : Jvm.MethodName)) ∈ lw_all := lw_g (lw_at lw_m5 1 rfl) rfl
theorem q1119 : (Jvm.Cond.unhidden "LettersOnStrike$Compared" "is" "([I)Z") ∈ lw_tbl := lw_at lw_m5 2 rfl
theorem q1120 : (Jvm.Cond.instanceMethod ({ cls := "LettersOnStrike$Compared", name := "is", desc := "([I)Z" } : Jvm.MethodName)) ∈ lw_all := lw_g (lw_at lw_m5 3 rfl) rfl
theorem q1121 : (Jvm.Cond.publicMethod ({ cls := "LettersOnStrike$Compared", name := "is", desc := "([I)Z" } : Jvm.MethodName)) ∈ lw_tbl := lw_at lw_m5 4 rfl
theorem q1122 : (Jvm.Cond.code ({ cls := "LettersOnStrike$Compared", name := "is", desc := "([I)Z" } : Jvm.MethodName) prog_5_method_2_code (4 : Nat) (Option.some Jvm.ClassFile.FieldType.boolean)) ∈ lw_all := lw_g (lw_at lw_m5 5 rfl) rfl
theorem q1123 : (Jvm.Cond.interfaceEntry "LettersOnStrike$Compared" (20 : Nat)) ∈ lw_tbl := lw_at lw_m5 6 rfl
theorem q1124 : (Jvm.Cond.methodLink "LettersOnStrike$Compared" (20 : Nat) ({ cls := "LettersOnStrike$Sum", name := "of", desc := "([I)J" } : Jvm.MethodName)) ∈ lw_all := lw_g (lw_at lw_m5 7 rfl) rfl
theorem q1125 : (Jvm.Cond.interfaceMethod "LettersOnStrike$Sum" "LettersOnStrike$Sum" "of" "([I)J") ∈ lw_tbl := lw_at lw_m5 8 rfl
theorem q1126 : (Jvm.Cond.declares ({ cls := "LettersOnStrike$Sum", name := "of", desc := "([I)J" } : Jvm.MethodName)) ∈ lw_tbl := lw_at lw_m5 9 rfl
theorem q1127 : (Jvm.Cond.castable "LettersOnStrike$Chain" "LettersOnStrike$Sum") ∈ lw_tbl := lw_at lw_m5 10 rfl
theorem q1128 : (Jvm.Cond.selects "LettersOnStrike$Chain" ({ cls := "LettersOnStrike$Sum", name := "of", desc := "([I)J" } : Jvm.MethodName) ({ cls := "LettersOnStrike$Chain", name := "of", desc := "([I)J" } : Jvm.MethodName)) ∈ lw_all := lw_g (lw_at lw_m5 11 rfl) rfl
theorem q1129 : (Jvm.Cond.unhidden "LettersOnStrike$Chain" "of" "([I)J") ∈ lw_tbl := lw_at lw_m5 12 rfl
theorem q1130 : (Jvm.Cond.instanceMethod ({ cls := "LettersOnStrike$Chain", name := "of", desc := "([I)J" } : Jvm.MethodName)) ∈ lw_all := lw_g (lw_at lw_m5 13 rfl) rfl
theorem q1131 : (Jvm.Cond.publicMethod ({ cls := "LettersOnStrike$Chain", name := "of", desc := "([I)J" } : Jvm.MethodName)) ∈ lw_tbl := lw_at lw_m5 14 rfl
theorem q1132 : (Jvm.Cond.code ({ cls := "LettersOnStrike$Chain", name := "of", desc := "([I)J" } : Jvm.MethodName) prog_4_method_4_code (10 : Nat) (Option.some Jvm.ClassFile.FieldType.long)) ∈ lw_all := lw_g (lw_at lw_m5 15 rfl) rfl
theorem q1133 : (Jvm.Cond.interfaceEntry "LettersOnStrike$Chain" (39 : Nat)) ∈ lw_tbl := lw_at lw_m5 16 rfl
theorem q1134 : (Jvm.Cond.methodLink "LettersOnStrike$Chain" (39 : Nat) ({ cls := "LettersOnStrike$Sum", name := "of", desc := "([I)J" } : Jvm.MethodName)) ∈ lw_all := lw_g (lw_at lw_m5 17 rfl) rfl
theorem q1135 : (Jvm.Cond.castable "LettersOnStrike$Minus" "LettersOnStrike$Sum") ∈ lw_tbl := lw_at lw_m5 18 rfl
theorem q1136 : (Jvm.Cond.selects "LettersOnStrike$Minus" ({ cls := "LettersOnStrike$Sum", name := "of", desc := "([I)J" } : Jvm.MethodName) ({ cls := "LettersOnStrike$Minus", name := "of", desc := "([I)J" } : Jvm.MethodName)) ∈ lw_all := lw_g (lw_at lw_m5 19 rfl) rfl
theorem q1137 : (Jvm.Cond.unhidden "LettersOnStrike$Minus" "of" "([I)J") ∈ lw_tbl := lw_at lw_m5 20 rfl
theorem q1138 : (Jvm.Cond.instanceMethod ({ cls := "LettersOnStrike$Minus", name := "of", desc := "([I)J" } : Jvm.MethodName)) ∈ lw_all := lw_g (lw_at lw_m5 21 rfl) rfl
theorem q1139 : (Jvm.Cond.publicMethod ({ cls := "LettersOnStrike$Minus", name := "of", desc := "([I)J" } : Jvm.MethodName)) ∈ lw_tbl := lw_at lw_m5 22 rfl
theorem q1140 : (Jvm.Cond.code ({ cls := "LettersOnStrike$Minus", name := "of", desc := "([I)J" } : Jvm.MethodName) prog_7_method_2_code (2 : Nat) (Option.some Jvm.ClassFile.FieldType.long)) ∈ lw_all := lw_g (lw_at lw_m5 23 rfl) rfl
theorem q1141 : (Jvm.Cond.interfaceEntry "LettersOnStrike$Minus" (13 : Nat)) ∈ lw_tbl := lw_at lw_m5 24 rfl
theorem q1142 : (Jvm.Cond.methodLink "LettersOnStrike$Minus" (13 : Nat) ({ cls := "LettersOnStrike$Sum", name := "of", desc := "([I)J" } : Jvm.MethodName)) ∈ lw_all := lw_g (lw_at lw_m5 25 rfl) rfl
theorem q1143 : (Jvm.Cond.castable "LettersOnStrike$Name" "LettersOnStrike$Sum") ∈ lw_tbl := lw_at lw_m5 26 rfl
theorem q1144 : (Jvm.Cond.selects "LettersOnStrike$Name" ({ cls := "LettersOnStrike$Sum", name := "of", desc := "([I)J" } : Jvm.MethodName) ({ cls := "LettersOnStrike$Name", name := "of", desc := "([I)J" } : Jvm.MethodName)) ∈ lw_all := lw_g (lw_at lw_m5 27 rfl) rfl
theorem q1145 : (Jvm.Cond.unhidden "LettersOnStrike$Name" "of" "([I)J") ∈ lw_tbl := lw_at lw_m5 28 rfl
theorem q1146 : (Jvm.Cond.instanceMethod ({ cls := "LettersOnStrike$Name", name := "of", desc := "([I)J" } : Jvm.MethodName)) ∈ lw_all := lw_g (lw_at lw_m5 29 rfl) rfl
theorem q1147 : (Jvm.Cond.publicMethod ({ cls := "LettersOnStrike$Name", name := "of", desc := "([I)J" } : Jvm.MethodName)) ∈ lw_tbl := lw_at lw_m5 30 rfl
theorem q1148 : (Jvm.Cond.code ({ cls := "LettersOnStrike$Name", name := "of", desc := "([I)J" } : Jvm.MethodName) prog_8_method_2_code (2 : Nat) (Option.some Jvm.ClassFile.FieldType.long)) ∈ lw_all := lw_g (lw_at lw_m5 31 rfl) rfl
theorem q1149 : (Jvm.Cond.castable "LettersOnStrike$Plain" "LettersOnStrike$Sum") ∈ lw_tbl := lw_at lw_m5 32 rfl
theorem q1150 : (Jvm.Cond.selects "LettersOnStrike$Plain" ({ cls := "LettersOnStrike$Sum", name := "of", desc := "([I)J" } : Jvm.MethodName) ({ cls := "LettersOnStrike$Plain", name := "of", desc := "([I)J" } : Jvm.MethodName)) ∈ lw_all := lw_g (lw_at lw_m5 33 rfl) rfl
theorem q1151 : (Jvm.Cond.unhidden "LettersOnStrike$Plain" "of" "([I)J") ∈ lw_tbl := lw_at lw_m5 34 rfl
theorem q1152 : (Jvm.Cond.instanceMethod ({ cls := "LettersOnStrike$Plain", name := "of", desc := "([I)J" } : Jvm.MethodName)) ∈ lw_all := lw_g (lw_at lw_m5 35 rfl) rfl
theorem q1153 : (Jvm.Cond.publicMethod ({ cls := "LettersOnStrike$Plain", name := "of", desc := "([I)J" } : Jvm.MethodName)) ∈ lw_tbl := lw_at lw_m5 36 rfl
theorem q1154 : (Jvm.Cond.code ({ cls := "LettersOnStrike$Plain", name := "of", desc := "([I)J" } : Jvm.MethodName) prog_10_method_2_code (2 : Nat) (Option.some Jvm.ClassFile.FieldType.long)) ∈ lw_all := lw_g (lw_at lw_m5 37 rfl) rfl
theorem q1155 : (Jvm.Cond.methodLink "LettersOnStrike$Chain" (45 : Nat) ({ cls := "java/util/ArrayList", name := "size", desc := "()I" } : Jvm.MethodName)) ∈ lw_all := lw_g (lw_at lw_m5 38 rfl) rfl
theorem q1156 : (Jvm.Cond.methodLink "LettersOnStrike$Chain" (49 : Nat) ({ cls := "java/util/ArrayList", name := "get", desc := "(I)Ljava/lang/Object;" } : Jvm.MethodName)) ∈ lw_all := lw_g (lw_at lw_m5 39 rfl) rfl
theorem q1157 : (Jvm.Cond.classLink "LettersOnStrike$Chain" (40 : Nat) "LettersOnStrike$Sum") ∈ lw_all := lw_g (lw_at lw_m5 40 rfl) rfl
theorem q1158 : (Jvm.Cond.classLink "LettersOnStrike$Chain" (26 : Nat) "java/lang/Integer") ∈ lw_all := lw_g (lw_at lw_m5 41 rfl) rfl
theorem q1159 : (Jvm.Cond.methodLink "LettersOnStrike$Chain" (53 : Nat) ({ cls := "java/lang/Integer", name := "intValue", desc := "()I" } : Jvm.MethodName)) ∈ lw_all := lw_g (lw_at lw_m5 42 rfl) rfl
theorem q1160 : (Jvm.Cond.instanceMethod ({ cls := "java/lang/Integer", name := "intValue", desc := "()I" } : Jvm.MethodName)) ∈ lw_all := lw_g (lw_at lw_m5 43 rfl) rfl
theorem q1161 : (Jvm.Cond.selects "java/lang/Integer" ({ cls := "java/lang/Integer", name := "intValue", desc := "()I" } : Jvm.MethodName) ({ cls := "java/lang/Integer", name := "intValue", desc := "()I" } : Jvm.MethodName)) ∈ lw_all := lw_g (lw_at lw_m5 44 rfl) rfl
theorem q1162 : (Jvm.Cond.code ({ cls := "java/lang/Integer", name := "intValue", desc := "()I" } : Jvm.MethodName) prog_24_method_27_code (1 : Nat) (Option.some Jvm.ClassFile.FieldType.int)) ∈ lw_all := lw_g (lw_at lw_m5 45 rfl) rfl
theorem q1163 : (Jvm.Cond.constantLong "LettersOnStrike$Chain" (56 : Nat) (-1000000 : Int64)) ∈ lw_all := lw_g (lw_at lw_m5 46 rfl) rfl
theorem q1164 : (Jvm.Cond.constantLong "LettersOnStrike$Chain" (58 : Nat) (1000000 : Int64)) ∈ lw_all := lw_g (lw_at lw_m5 47 rfl) rfl
theorem q1165 : (Jvm.Cond.methodLink "LettersOnStrike$Chain" (60 : Nat) ({ cls := "java/lang/Math", name := "min", desc := "(JJ)J" } : Jvm.MethodName)) ∈ lw_all := lw_g (lw_at lw_m5 48 rfl) rfl
theorem q1166 : (Jvm.Cond.static ({ cls := "java/lang/Math", name := "min", desc := "(JJ)J" } : Jvm.MethodName)) ∈ lw_all := lw_g (lw_at lw_m5 49 rfl) rfl
theorem q1167 : (Jvm.Cond.code ({ cls := "java/lang/Math", name := "min", desc := "(JJ)J" } : Jvm.MethodName) prog_28_method_70_code (4 : Nat) (Option.some Jvm.ClassFile.FieldType.long)) ∈ lw_all := lw_g (lw_at lw_m5 50 rfl) rfl
theorem q1168 : (Jvm.Cond.methodLink "LettersOnStrike$Chain" (66 : Nat) ({ cls := "java/lang/Math", name := "max", desc := "(JJ)J" } : Jvm.MethodName)) ∈ lw_all := lw_g (lw_at lw_m5 51 rfl) rfl
theorem q1169 : (Jvm.Cond.static ({ cls := "java/lang/Math", name := "max", desc := "(JJ)J" } : Jvm.MethodName)) ∈ lw_all := lw_g (lw_at lw_m5 52 rfl) rfl
theorem q1170 : (Jvm.Cond.code ({ cls := "java/lang/Math", name := "max", desc := "(JJ)J" } : Jvm.MethodName) prog_28_method_66_code (4 : Nat) (Option.some Jvm.ClassFile.FieldType.long)) ∈ lw_all := lw_g (lw_at lw_m5 53 rfl) rfl
theorem q1171 : (Jvm.Cond.castable "LettersOnStrike$Not" "LettersOnStrike$Asked") ∈ lw_tbl := lw_at lw_m5 54 rfl
theorem q1172 : (Jvm.Cond.selects "LettersOnStrike$Not" ({ cls := "LettersOnStrike$Asked", name := "is", desc := "([I)Z" } : Jvm.MethodName) ({ cls := "LettersOnStrike$Not", name := "is", desc := "([I)Z" } : Jvm.MethodName)) ∈ lw_all := lw_g (lw_at lw_m5 55 rfl) rfl
theorem q1173 : (Jvm.Cond.unhidden "LettersOnStrike$Not" "is" "([I)Z") ∈ lw_tbl := lw_at lw_m5 56 rfl
theorem q1174 : (Jvm.Cond.instanceMethod ({ cls := "LettersOnStrike$Not", name := "is", desc := "([I)Z" } : Jvm.MethodName)) ∈ lw_all := lw_g (lw_at lw_m5 57 rfl) rfl
theorem q1175 : (Jvm.Cond.publicMethod ({ cls := "LettersOnStrike$Not", name := "is", desc := "([I)Z" } : Jvm.MethodName)) ∈ lw_tbl := lw_at lw_m5 58 rfl
theorem q1176 : (Jvm.Cond.code ({ cls := "LettersOnStrike$Not", name := "is", desc := "([I)Z" } : Jvm.MethodName) prog_9_method_2_code (2 : Nat) (Option.some Jvm.ClassFile.FieldType.boolean)) ∈ lw_all := lw_g (lw_at lw_m5 59 rfl) rfl
theorem q1177 : (Jvm.Cond.interfaceEntry "LettersOnStrike$Not" (13 : Nat)) ∈ lw_tbl := lw_at lw_m5 60 rfl
theorem q1178 : (Jvm.Cond.methodLink "LettersOnStrike$Not" (13 : Nat) ({ cls := "LettersOnStrike$Asked", name := "is", desc := "([I)Z" } : Jvm.MethodName)) ∈ lw_all := lw_g (lw_at lw_m5 61 rfl) rfl
theorem q1179 : (Jvm.Cond.methodLink "LettersOnStrike" (225 : Nat) ({ cls := "java/lang/Math", name := "min", desc := "(II)I" } : Jvm.MethodName)) ∈ lw_all := lw_g (lw_at lw_m5 62 rfl) rfl
theorem q1180 : (Jvm.Cond.methodLink "LettersOnStrikeLaw" (55 : Nat) ({ cls := "LettersOnStrike", name := "strike", desc := "(I)I" } : Jvm.MethodName)) ∈ lw_all := lw_g (lw_at lw_m5 63 rfl) rfl
theorem q1181 : (Jvm.Cond.instanceMethod ({ cls := "LettersOnStrike", name := "strike", desc := "(I)I" } : Jvm.MethodName)) ∈ lw_all := lw_g (lw_at lw_m5 64 rfl) rfl
theorem q1182 : (Jvm.Cond.selects "LettersOnStrike" ({ cls := "LettersOnStrike", name := "strike", desc := "(I)I" } : Jvm.MethodName) ({ cls := "LettersOnStrike", name := "strike", desc := "(I)I" } : Jvm.MethodName)) ∈ lw_all := lw_g (lw_at lw_m5 65 rfl) rfl
theorem q1183 : (Jvm.Cond.code ({ cls := "LettersOnStrike", name := "strike", desc := "(I)I" } : Jvm.MethodName) prog_1_method_32_code (2 : Nat) (Option.some Jvm.ClassFile.FieldType.int)) ∈ lw_all := lw_g (lw_at lw_m5 66 rfl) rfl
theorem q1184 : (Jvm.Cond.methodLink "LettersOnStrike" (237 : Nat) ({ cls := "LettersOnStrike", name := "isSet", desc := "(I)Z" } : Jvm.MethodName)) ∈ lw_all := lw_g (lw_at lw_m5 67 rfl) rfl
theorem q1185 : (Jvm.Cond.static ({ cls := "LettersOnStrike", name := "isSet", desc := "(I)Z" } : Jvm.MethodName)) ∈ lw_all := lw_g (lw_at lw_m5 68 rfl) rfl
theorem q1186 : (Jvm.Cond.code ({ cls := "LettersOnStrike", name := "isSet", desc := "(I)Z" } : Jvm.MethodName) prog_1_method_7_code (1 : Nat) (Option.some Jvm.ClassFile.FieldType.boolean)) ∈ lw_all := lw_g (lw_at lw_m5 69 rfl) rfl
theorem q1187 : (Jvm.Cond.constant "LettersOnStrike" (69 : Nat) (67108863 : Int32)) ∈ lw_all := lw_g (lw_at lw_m5 70 rfl) rfl
theorem q1188 : (Jvm.Cond.methodLink "LettersOnStrike" (240 : Nat) ({ cls := "LettersOnStrike", name := "called", desc := "(I)I" } : Jvm.MethodName)) ∈ lw_all := lw_g (lw_at lw_m5 71 rfl) rfl
theorem q1189 : (Jvm.Cond.privateMethod ({ cls := "LettersOnStrike", name := "called", desc := "(I)I" } : Jvm.MethodName)) ∈ lw_tbl := lw_at lw_m5 72 rfl
theorem q1190 : (Jvm.Cond.instanceMethod ({ cls := "LettersOnStrike", name := "called", desc := "(I)I" } : Jvm.MethodName)) ∈ lw_all := lw_g (lw_at lw_m5 73 rfl) rfl
theorem q1191 : (Jvm.Cond.code ({ cls := "LettersOnStrike", name := "called", desc := "(I)I" } : Jvm.MethodName) prog_1_method_31_code (2 : Nat) (Option.some Jvm.ClassFile.FieldType.int)) ∈ lw_all := lw_g (lw_at lw_m5 74 rfl) rfl
theorem q1192 : (Jvm.Cond.methodLink "LettersOnStrike" (234 : Nat) ({ cls := "LettersOnStrike", name := "walks", desc := "(I)V" } : Jvm.MethodName)) ∈ lw_all := lw_g (lw_at lw_m5 75 rfl) rfl
theorem q1193 : (Jvm.Cond.privateMethod ({ cls := "LettersOnStrike", name := "walks", desc := "(I)V" } : Jvm.MethodName)) ∈ lw_tbl := lw_at lw_m5 76 rfl
theorem q1194 : (Jvm.Cond.instanceMethod ({ cls := "LettersOnStrike", name := "walks", desc := "(I)V" } : Jvm.MethodName)) ∈ lw_all := lw_g (lw_at lw_m5 77 rfl) rfl
theorem q1195 : (Jvm.Cond.code ({ cls := "LettersOnStrike", name := "walks", desc := "(I)V" } : Jvm.MethodName) prog_1_method_30_code (3 : Nat) (Option.none : Option Jvm.ClassFile.FieldType)) ∈ lw_all := lw_g (lw_at lw_m5 78 rfl) rfl
theorem q1196 : (Jvm.Cond.methodLink "LettersOnStrikeLaw" (59 : Nat) ({ cls := "LettersOnStrike", name := "comeBack", desc := "(I)I" } : Jvm.MethodName)) ∈ lw_all := lw_g (lw_at lw_m5 79 rfl) rfl
theorem q1197 : (Jvm.Cond.instanceMethod ({ cls := "LettersOnStrike", name := "comeBack", desc := "(I)I" } : Jvm.MethodName)) ∈ lw_all := lw_g (lw_at lw_m5 80 rfl) rfl
theorem q1198 : (Jvm.Cond.selects "LettersOnStrike" ({ cls := "LettersOnStrike", name := "comeBack", desc := "(I)I" } : Jvm.MethodName) ({ cls := "LettersOnStrike", name := "comeBack", desc := "(I)I" } : Jvm.MethodName)) ∈ lw_all := lw_g (lw_at lw_m5 81 rfl) rfl
theorem q1199 : (Jvm.Cond.code ({ cls := "LettersOnStrike", name := "comeBack", desc := "(I)I" } : Jvm.MethodName) prog_1_method_33_code (2 : Nat) (Option.some Jvm.ClassFile.FieldType.int)) ∈ lw_all := lw_g (lw_at lw_m5 82 rfl) rfl
theorem q1200 : (Jvm.Cond.methodLink "LettersOnStrikeLaw" (63 : Nat) ({ cls := "LettersOnStrike", name := "raise", desc := "(II)Z" } : Jvm.MethodName)) ∈ lw_all := lw_g (lw_at lw_m5 83 rfl) rfl
theorem q1201 : (Jvm.Cond.instanceMethod ({ cls := "LettersOnStrike", name := "raise", desc := "(II)Z" } : Jvm.MethodName)) ∈ lw_all := lw_g (lw_at lw_m5 84 rfl) rfl
theorem q1202 : (Jvm.Cond.selects "LettersOnStrike" ({ cls := "LettersOnStrike", name := "raise", desc := "(II)Z" } : Jvm.MethodName) ({ cls := "LettersOnStrike", name := "raise", desc := "(II)Z" } : Jvm.MethodName)) ∈ lw_all := lw_g (lw_at lw_m5 85 rfl) rfl
theorem q1203 : (Jvm.Cond.code ({ cls := "LettersOnStrike", name := "raise", desc := "(II)Z" } : Jvm.MethodName) prog_1_method_34_code (3 : Nat) (Option.some Jvm.ClassFile.FieldType.boolean)) ∈ lw_all := lw_g (lw_at lw_m5 86 rfl) rfl
theorem q1204 : (Jvm.Cond.methodLink "LettersOnStrikeLaw" (67 : Nat) ({ cls := "LettersOnStrike", name := "sign", desc := "(II)Z" } : Jvm.MethodName)) ∈ lw_all := lw_g (lw_at lw_m5 87 rfl) rfl
theorem q1205 : (Jvm.Cond.instanceMethod ({ cls := "LettersOnStrike", name := "sign", desc := "(II)Z" } : Jvm.MethodName)) ∈ lw_all := lw_g (lw_at lw_m5 88 rfl) rfl
theorem q1206 : (Jvm.Cond.selects "LettersOnStrike" ({ cls := "LettersOnStrike", name := "sign", desc := "(II)Z" } : Jvm.MethodName) ({ cls := "LettersOnStrike", name := "sign", desc := "(II)Z" } : Jvm.MethodName)) ∈ lw_all := lw_g (lw_at lw_m5 89 rfl) rfl
theorem q1207 : (Jvm.Cond.code ({ cls := "LettersOnStrike", name := "sign", desc := "(II)Z" } : Jvm.MethodName) prog_1_method_35_code (3 : Nat) (Option.some Jvm.ClassFile.FieldType.boolean)) ∈ lw_all := lw_g (lw_at lw_m5 90 rfl) rfl
theorem q1208 : (Jvm.Cond.methodLink "LettersOnStrikeLaw" (71 : Nat) ({ cls := "LettersOnStrike", name := "contract", desc := "(I)I" } : Jvm.MethodName)) ∈ lw_all := lw_g (lw_at lw_m5 91 rfl) rfl
theorem q1209 : (Jvm.Cond.instanceMethod ({ cls := "LettersOnStrike", name := "contract", desc := "(I)I" } : Jvm.MethodName)) ∈ lw_all := lw_g (lw_at lw_m5 92 rfl) rfl
theorem q1210 : (Jvm.Cond.selects "LettersOnStrike" ({ cls := "LettersOnStrike", name := "contract", desc := "(I)I" } : Jvm.MethodName) ({ cls := "LettersOnStrike", name := "contract", desc := "(I)I" } : Jvm.MethodName)) ∈ lw_all := lw_g (lw_at lw_m5 93 rfl) rfl
theorem q1211 : (Jvm.Cond.code ({ cls := "LettersOnStrike", name := "contract", desc := "(I)I" } : Jvm.MethodName) prog_1_method_36_code (4 : Nat) (Option.some Jvm.ClassFile.FieldType.int)) ∈ lw_all := lw_g (lw_at lw_m5 94 rfl) rfl
theorem q1212 : (Jvm.Cond.methodLink "LettersOnStrike" (243 : Nat) ({ cls := "LettersOnStrike", name := "isSaying", desc := "(I)Z" } : Jvm.MethodName)) ∈ lw_all := lw_g (lw_at lw_m5 95 rfl) rfl
theorem q1213 : (Jvm.Cond.privateMethod ({ cls := "LettersOnStrike", name := "isSaying", desc := "(I)Z" } : Jvm.MethodName)) ∈ lw_tbl := lw_at lw_m5 96 rfl
theorem q1214 : (Jvm.Cond.instanceMethod ({ cls := "LettersOnStrike", name := "isSaying", desc := "(I)Z" } : Jvm.MethodName)) ∈ lw_all := lw_g (lw_at lw_m5 97 rfl) rfl
theorem q1215 : (Jvm.Cond.code ({ cls := "LettersOnStrike", name := "isSaying", desc := "(I)Z" } : Jvm.MethodName) prog_1_method_6_code (2 : Nat) (Option.some Jvm.ClassFile.FieldType.boolean)) ∈ lw_all := lw_g (lw_at lw_m5 98 rfl) rfl
theorem q1216 : (Jvm.Cond.methodLink "LettersOnStrike" (246 : Nat) ({ cls := "LettersOnStrike$State", name := "silent", desc := "()I" } : Jvm.MethodName)) ∈ lw_all := lw_g (lw_at lw_m5 99 rfl) rfl
theorem q1217 : (Jvm.Cond.instanceMethod ({ cls := "LettersOnStrike$State", name := "silent", desc := "()I" } : Jvm.MethodName)) ∈ lw_all := lw_g (lw_at lw_m5 100 rfl) rfl
theorem q1218 : (Jvm.Cond.selects "LettersOnStrike$State" ({ cls := "LettersOnStrike$State", name := "silent", desc := "()I" } : Jvm.MethodName) ({ cls := "LettersOnStrike$State", name := "silent", desc := "()I" } : Jvm.MethodName)) ∈ lw_all := lw_g (lw_at lw_m5 101 rfl) rfl
theorem q1219 : (Jvm.Cond.code ({ cls := "LettersOnStrike$State", name := "silent", desc := "()I" } : Jvm.MethodName) prog_11_method_7_code (3 : Nat) (Option.some Jvm.ClassFile.FieldType.int)) ∈ lw_all := lw_g (lw_at lw_m5 102 rfl) rfl
theorem q1220 : (Jvm.Cond.methodLink "LettersOnStrike$State" (71 : Nat) ({ cls := "LettersOnStrike$State", name := "isOut", desc := "(I)Z" } : Jvm.MethodName)) ∈ lw_all := lw_g (lw_at lw_m5 103 rfl) rfl
theorem q1221 : (Jvm.Cond.methodLink "LettersOnStrike" (249 : Nat) ({ cls := "LettersOnStrike", name := "says", desc := "(II)Z" } : Jvm.MethodName)) ∈ lw_all := lw_g (lw_at lw_m5 104 rfl) rfl
theorem q1222 : (Jvm.Cond.privateMethod ({ cls := "LettersOnStrike", name := "says", desc := "(II)Z" } : Jvm.MethodName)) ∈ lw_tbl := lw_at lw_m5 105 rfl
theorem q1223 : (Jvm.Cond.instanceMethod ({ cls := "LettersOnStrike", name := "says", desc := "(II)Z" } : Jvm.MethodName)) ∈ lw_all := lw_g (lw_at lw_m5 106 rfl) rfl
theorem q1224 : (Jvm.Cond.code ({ cls := "LettersOnStrike", name := "says", desc := "(II)Z" } : Jvm.MethodName) prog_1_method_55_code (5 : Nat) (Option.some Jvm.ClassFile.FieldType.boolean)) ∈ lw_all := lw_g (lw_at lw_m5 107 rfl) rfl
theorem q1225 : (Jvm.Cond.methodLink "LettersOnStrike" (351 : Nat) ({ cls := "LettersOnStrike", name := "wordFor", desc := "(II)I" } : Jvm.MethodName)) ∈ lw_all := lw_g (lw_at lw_m5 108 rfl) rfl
theorem q1226 : (Jvm.Cond.privateMethod ({ cls := "LettersOnStrike", name := "wordFor", desc := "(II)I" } : Jvm.MethodName)) ∈ lw_tbl := lw_at lw_m5 109 rfl
theorem q1227 : (Jvm.Cond.instanceMethod ({ cls := "LettersOnStrike", name := "wordFor", desc := "(II)I" } : Jvm.MethodName)) ∈ lw_all := lw_g (lw_at lw_m5 110 rfl) rfl
theorem q1228 : (Jvm.Cond.code ({ cls := "LettersOnStrike", name := "wordFor", desc := "(II)I" } : Jvm.MethodName) prog_1_method_54_code (5 : Nat) (Option.some Jvm.ClassFile.FieldType.int)) ∈ lw_all := lw_g (lw_at lw_m5 111 rfl) rfl
theorem q1229 : (Jvm.Cond.methodLink "LettersOnStrike" (202 : Nat) ({ cls := "LettersOnStrike$Word", name := "sense", desc := "()I" } : Jvm.MethodName)) ∈ lw_all := lw_g (lw_at lw_m5 112 rfl) rfl
theorem q1230 : (Jvm.Cond.instanceMethod ({ cls := "LettersOnStrike$Word", name := "sense", desc := "()I" } : Jvm.MethodName)) ∈ lw_all := lw_g (lw_at lw_m5 113 rfl) rfl
theorem q1231 : (Jvm.Cond.selects "LettersOnStrike$Word" ({ cls := "LettersOnStrike$Word", name := "sense", desc := "()I" } : Jvm.MethodName) ({ cls := "LettersOnStrike$Word", name := "sense", desc := "()I" } : Jvm.MethodName)) ∈ lw_all := lw_g (lw_at lw_m5 114 rfl) rfl
theorem q1232 : (Jvm.Cond.code ({ cls := "LettersOnStrike$Word", name := "sense", desc := "()I" } : Jvm.MethodName) prog_15_method_8_code (1 : Nat) (Option.some Jvm.ClassFile.FieldType.int)) ∈ lw_all := lw_g (lw_at lw_m5 115 rfl) rfl
theorem q1233 : (Jvm.Cond.methodLink "LettersOnStrike" (345 : Nat) ({ cls := "LettersOnStrike", name := "can", desc := "(II)Z" } : Jvm.MethodName)) ∈ lw_all := lw_g (lw_at lw_m5 116 rfl) rfl
theorem q1234 : (Jvm.Cond.privateMethod ({ cls := "LettersOnStrike", name := "can", desc := "(II)Z" } : Jvm.MethodName)) ∈ lw_tbl := lw_at lw_m5 117 rfl
theorem q1235 : (Jvm.Cond.instanceMethod ({ cls := "LettersOnStrike", name := "can", desc := "(II)Z" } : Jvm.MethodName)) ∈ lw_all := lw_g (lw_at lw_m5 118 rfl) rfl
theorem q1236 : (Jvm.Cond.code ({ cls := "LettersOnStrike", name := "can", desc := "(II)Z" } : Jvm.MethodName) prog_1_method_49_code (3 : Nat) (Option.some Jvm.ClassFile.FieldType.boolean)) ∈ lw_all := lw_g (lw_at lw_m5 119 rfl) rfl
theorem q1237 : (Jvm.Cond.methodLink "LettersOnStrike" (199 : Nat) ({ cls := "LettersOnStrike$Word", name := "length", desc := "()I" } : Jvm.MethodName)) ∈ lw_all := lw_g (lw_at lw_m5 120 rfl) rfl
theorem q1238 : (Jvm.Cond.instanceMethod ({ cls := "LettersOnStrike$Word", name := "length", desc := "()I" } : Jvm.MethodName)) ∈ lw_all := lw_g (lw_at lw_m5 121 rfl) rfl
theorem q1239 : (Jvm.Cond.selects "LettersOnStrike$Word" ({ cls := "LettersOnStrike$Word", name := "length", desc := "()I" } : Jvm.MethodName) ({ cls := "LettersOnStrike$Word", name := "length", desc := "()I" } : Jvm.MethodName)) ∈ lw_all := lw_g (lw_at lw_m5 122 rfl) rfl
theorem q1240 : (Jvm.Cond.code ({ cls := "LettersOnStrike$Word", name := "length", desc := "()I" } : Jvm.MethodName) prog_15_method_2_code (1 : Nat) (Option.some Jvm.ClassFile.FieldType.int)) ∈ lw_all := lw_g (lw_at lw_m5 123 rfl) rfl
theorem q1241 : (Jvm.Cond.methodLink "LettersOnStrike" (252 : Nat) ({ cls := "java/lang/System", name := "arraycopy", desc := "(Ljava/lang/Object;ILjava/lang/Object;II)V" } : Jvm.MethodName)) ∈ lw_all := lw_g (lw_at lw_m5 124 rfl) rfl
theorem q1242 : (Jvm.Cond.methodLink "LettersOnStrikeLaw" (75 : Nat) ({ cls := "LettersOnStrike", name := "played", desc := "(I)I" } : Jvm.MethodName)) ∈ lw_all := lw_g (lw_at lw_m5 125 rfl) rfl
theorem q1243 : (Jvm.Cond.instanceMethod ({ cls := "LettersOnStrike", name := "played", desc := "(I)I" } : Jvm.MethodName)) ∈ lw_all := lw_g (lw_at lw_m5 126 rfl) rfl
theorem q1244 : (Jvm.Cond.selects "LettersOnStrike" ({ cls := "LettersOnStrike", name := "played", desc := "(I)I" } : Jvm.MethodName) ({ cls := "LettersOnStrike", name := "played", desc := "(I)I" } : Jvm.MethodName)) ∈ lw_all := lw_g (lw_at lw_m5 127 rfl) rfl
theorem q1245 : (Jvm.Cond.code ({ cls := "LettersOnStrike", name := "played", desc := "(I)I" } : Jvm.MethodName) prog_1_method_43_code (4 : Nat) (Option.some Jvm.ClassFile.FieldType.int)) ∈ lw_all := lw_g (lw_at lw_m5 128 rfl) rfl
theorem q1246 : (Jvm.Cond.methodLink "LettersOnStrike" (312 : Nat) ({ cls := "java/util/ArrayList", name := "size", desc := "()I" } : Jvm.MethodName)) ∈ lw_all := lw_g (lw_at lw_m5 129 rfl) rfl
theorem q1247 : (Jvm.Cond.methodLink "LettersOnStrike" (317 : Nat) ({ cls := "java/util/ArrayList", name := "get", desc := "(I)Ljava/lang/Object;" } : Jvm.MethodName)) ∈ lw_all := lw_g (lw_at lw_m5 130 rfl) rfl
theorem q1248 : (Jvm.Cond.classLink "LettersOnStrike" (271 : Nat) "LettersOnStrike$Doing") ∈ lw_all := lw_g (lw_at lw_m5 131 rfl) rfl
theorem q1249 : (Jvm.Cond.methodLink "LettersOnStrike" (321 : Nat) ({ cls := "LettersOnStrike", name := "does", desc := "(LLettersOnStrike$Doing;)Z" } : Jvm.MethodName)) ∈ lw_all := lw_g (lw_at lw_m5 132 rfl) rfl
theorem q1250 : (Jvm.Cond.privateMethod ({ cls := "LettersOnStrike", name := "does", desc := "(LLettersOnStrike$Doing;)Z" } : Jvm.MethodName)) ∈ lw_tbl := lw_at lw_m5 133 rfl
theorem q1251 : (Jvm.Cond.instanceMethod ({ cls := "LettersOnStrike", name := "does", desc := "(LLettersOnStrike$Doing;)Z" } : Jvm.MethodName)) ∈ lw_all := lw_g (lw_at lw_m5 134 rfl) rfl
theorem q1252 : (Jvm.Cond.code ({ cls := "LettersOnStrike", name := "does", desc := "(LLettersOnStrike$Doing;)Z" } : Jvm.MethodName) prog_1_method_42_code (2 : Nat) (Option.some Jvm.ClassFile.FieldType.boolean)) ∈ lw_all := lw_g (lw_at lw_m5 135 rfl) rfl
theorem q1253 : (Jvm.Cond.methodLink "LettersOnStrike" (270 : Nat) ({ cls := "LettersOnStrike$Doing", name := "sort", desc := "()I" } : Jvm.MethodName)) ∈ lw_all := lw_g (lw_at lw_m5 136 rfl) rfl
theorem q1254 : (Jvm.Cond.instanceMethod ({ cls := "LettersOnStrike$Doing", name := "sort", desc := "()I" } : Jvm.MethodName)) ∈ lw_all := lw_g (lw_at lw_m5 137 rfl) rfl
theorem q1255 : (Jvm.Cond.selects "LettersOnStrike$Doing" ({ cls := "LettersOnStrike$Doing", name := "sort", desc := "()I" } : Jvm.MethodName) ({ cls := "LettersOnStrike$Doing", name := "sort", desc := "()I" } : Jvm.MethodName)) ∈ lw_all := lw_g (lw_at lw_m5 138 rfl) rfl
theorem q1256 : (Jvm.Cond.code ({ cls := "LettersOnStrike$Doing", name := "sort", desc := "()I" } : Jvm.MethodName) prog_6_method_5_code (1 : Nat) (Option.some Jvm.ClassFile.FieldType.int)) ∈ lw_all := lw_g (lw_at lw_m5 139 rfl) rfl
theorem q1257 : (Jvm.Cond.methodLink "LettersOnStrike" (275 : Nat) ({ cls := "LettersOnStrike$Doing", name := "letters", desc := "()[I" } : Jvm.MethodName)) ∈ lw_all := lw_g (lw_at lw_m5 140 rfl) rfl
theorem q1258 : (Jvm.Cond.instanceMethod ({ cls := "LettersOnStrike$Doing", name := "letters", desc := "()[I" } : Jvm.MethodName)) ∈ lw_all := lw_g (lw_at lw_m5 141 rfl) rfl
theorem q1259 : (Jvm.Cond.selects "LettersOnStrike$Doing" ({ cls := "LettersOnStrike$Doing", name := "letters", desc := "()[I" } : Jvm.MethodName) ({ cls := "LettersOnStrike$Doing", name := "letters", desc := "()[I" } : Jvm.MethodName)) ∈ lw_all := lw_g (lw_at lw_m5 142 rfl) rfl
theorem q1260 : (Jvm.Cond.code ({ cls := "LettersOnStrike$Doing", name := "letters", desc := "()[I" } : Jvm.MethodName) prog_6_method_6_code (1 : Nat) (Option.some (Jvm.ClassFile.FieldType.array Jvm.ClassFile.FieldType.int))) ∈ lw_all := lw_g (lw_at lw_m5 143 rfl) rfl
theorem q1261 : (Jvm.Cond.methodLink "LettersOnStrike" (278 : Nat) ({ cls := "LettersOnStrike", name := "fromNought", desc := "([I)[I" } : Jvm.MethodName)) ∈ lw_all := lw_g (lw_at lw_m5 144 rfl) rfl
theorem q1262 : (Jvm.Cond.static ({ cls := "LettersOnStrike", name := "fromNought", desc := "([I)[I" } : Jvm.MethodName)) ∈ lw_all := lw_g (lw_at lw_m5 145 rfl) rfl
theorem q1263 : (Jvm.Cond.code ({ cls := "LettersOnStrike", name := "fromNought", desc := "([I)[I" } : Jvm.MethodName) prog_1_method_41_code (3 : Nat) (Option.some (Jvm.ClassFile.FieldType.array Jvm.ClassFile.FieldType.int))) ∈ lw_all := lw_g (lw_at lw_m5 146 rfl) rfl
theorem q1264 : (Jvm.Cond.methodLink "LettersOnStrike" (282 : Nat) ({ cls := "LettersOnStrike$Doing", name := "a", desc := "()I" } : Jvm.MethodName)) ∈ lw_all := lw_g (lw_at lw_m5 147 rfl) rfl
theorem q1265 : (Jvm.Cond.instanceMethod ({ cls := "LettersOnStrike$Doing", name := "a", desc := "()I" } : Jvm.MethodName)) ∈ lw_all := lw_g (lw_at lw_m5 148 rfl) rfl
theorem q1266 : (Jvm.Cond.selects "LettersOnStrike$Doing" ({ cls := "LettersOnStrike$Doing", name := "a", desc := "()I" } : Jvm.MethodName) ({ cls := "LettersOnStrike$Doing", name := "a", desc := "()I" } : Jvm.MethodName)) ∈ lw_all := lw_g (lw_at lw_m5 149 rfl) rfl
theorem q1267 : (Jvm.Cond.code ({ cls := "LettersOnStrike$Doing", name := "a", desc := "()I" } : Jvm.MethodName) prog_6_method_8_code (1 : Nat) (Option.some Jvm.ClassFile.FieldType.int)) ∈ lw_all := lw_g (lw_at lw_m5 150 rfl) rfl
theorem q1268 : (Jvm.Cond.methodLink "LettersOnStrike" (285 : Nat) ({ cls := "LettersOnStrike", name := "bitsOf", desc := "([I)I" } : Jvm.MethodName)) ∈ lw_all := lw_g (lw_at lw_m5 151 rfl) rfl
theorem q1269 : (Jvm.Cond.static ({ cls := "LettersOnStrike", name := "bitsOf", desc := "([I)I" } : Jvm.MethodName)) ∈ lw_all := lw_g (lw_at lw_m5 152 rfl) rfl
theorem q1270 : (Jvm.Cond.code ({ cls := "LettersOnStrike", name := "bitsOf", desc := "([I)I" } : Jvm.MethodName) prog_1_method_37_code (6 : Nat) (Option.some Jvm.ClassFile.FieldType.int)) ∈ lw_all := lw_g (lw_at lw_m5 153 rfl) rfl
theorem q1271 : (Jvm.Cond.methodLink "LettersOnStrike" (288 : Nat) ({ cls := "LettersOnStrike$Doing", name := "more", desc := "()[I" } : Jvm.MethodName)) ∈ lw_all := lw_g (lw_at lw_m5 154 rfl) rfl
theorem q1272 : (Jvm.Cond.instanceMethod ({ cls := "LettersOnStrike$Doing", name := "more", desc := "()[I" } : Jvm.MethodName)) ∈ lw_all := lw_g (lw_at lw_m5 155 rfl) rfl
theorem q1273 : (Jvm.Cond.selects "LettersOnStrike$Doing" ({ cls := "LettersOnStrike$Doing", name := "more", desc := "()[I" } : Jvm.MethodName) ({ cls := "LettersOnStrike$Doing", name := "more", desc := "()[I" } : Jvm.MethodName)) ∈ lw_all := lw_g (lw_at lw_m5 156 rfl) rfl
theorem q1274 : (Jvm.Cond.code ({ cls := "LettersOnStrike$Doing", name := "more", desc := "()[I" } : Jvm.MethodName) prog_6_method_7_code (1 : Nat) (Option.some (Jvm.ClassFile.FieldType.array Jvm.ClassFile.FieldType.int))) ∈ lw_all := lw_g (lw_at lw_m5 157 rfl) rfl
theorem q1275 : (Jvm.Cond.methodLink "LettersOnStrike" (291 : Nat) ({ cls := "LettersOnStrike", name := "ties", desc := "(II)Z" } : Jvm.MethodName)) ∈ lw_all := lw_g (lw_at lw_m5 158 rfl) rfl
theorem q1276 : (Jvm.Cond.privateMethod ({ cls := "LettersOnStrike", name := "ties", desc := "(II)Z" } : Jvm.MethodName)) ∈ lw_tbl := lw_at lw_m5 159 rfl
theorem q1277 : (Jvm.Cond.instanceMethod ({ cls := "LettersOnStrike", name := "ties", desc := "(II)Z" } : Jvm.MethodName)) ∈ lw_all := lw_g (lw_at lw_m5 160 rfl) rfl
theorem q1278 : (Jvm.Cond.code ({ cls := "LettersOnStrike", name := "ties", desc := "(II)Z" } : Jvm.MethodName) prog_1_method_38_code (6 : Nat) (Option.some Jvm.ClassFile.FieldType.boolean)) ∈ lw_all := lw_g (lw_at lw_m5 161 rfl) rfl
theorem q1279 : (Jvm.Cond.methodLink "LettersOnStrike" (258 : Nat) ({ cls := "LettersOnStrike", name := "tie", desc := "(II)Z" } : Jvm.MethodName)) ∈ lw_all := lw_g (lw_at lw_m5 162 rfl) rfl
theorem q1280 : (Jvm.Cond.methodLink "LettersOnStrike" (293 : Nat) ({ cls := "LettersOnStrike", name := "strike", desc := "(I)I" } : Jvm.MethodName)) ∈ lw_all := lw_g (lw_at lw_m5 163 rfl) rfl
theorem q1281 : (Jvm.Cond.methodLink "LettersOnStrike" (296 : Nat) ({ cls := "LettersOnStrike", name := "comeBack", desc := "(I)I" } : Jvm.MethodName)) ∈ lw_all := lw_g (lw_at lw_m5 164 rfl) rfl
theorem q1282 : (Jvm.Cond.methodLink "LettersOnStrike" (299 : Nat) ({ cls := "LettersOnStrike", name := "each", desc := "(IZI)Z" } : Jvm.MethodName)) ∈ lw_all := lw_g (lw_at lw_m5 165 rfl) rfl
theorem q1283 : (Jvm.Cond.privateMethod ({ cls := "LettersOnStrike", name := "each", desc := "(IZI)Z" } : Jvm.MethodName)) ∈ lw_tbl := lw_at lw_m5 166 rfl
theorem q1284 : (Jvm.Cond.instanceMethod ({ cls := "LettersOnStrike", name := "each", desc := "(IZI)Z" } : Jvm.MethodName)) ∈ lw_all := lw_g (lw_at lw_m5 167 rfl) rfl
theorem q1285 : (Jvm.Cond.code ({ cls := "LettersOnStrike", name := "each", desc := "(IZI)Z" } : Jvm.MethodName) prog_1_method_39_code (6 : Nat) (Option.some Jvm.ClassFile.FieldType.boolean)) ∈ lw_all := lw_g (lw_at lw_m5 168 rfl) rfl
theorem q1286 : (Jvm.Cond.methodLink "LettersOnStrike" (261 : Nat) ({ cls := "LettersOnStrike", name := "raise", desc := "(II)Z" } : Jvm.MethodName)) ∈ lw_all := lw_g (lw_at lw_m5 169 rfl) rfl
theorem q1287 : (Jvm.Cond.methodLink "LettersOnStrike" (264 : Nat) ({ cls := "LettersOnStrike", name := "sign", desc := "(II)Z" } : Jvm.MethodName)) ∈ lw_all := lw_g (lw_at lw_m5 170 rfl) rfl
theorem q1288 : (Jvm.Cond.methodLink "LettersOnStrike" (303 : Nat) ({ cls := "LettersOnStrike", name := "contract", desc := "(I)I" } : Jvm.MethodName)) ∈ lw_all := lw_g (lw_at lw_m5 171 rfl) rfl
theorem q1289 : (Jvm.Cond.methodLink "LettersOnStrike" (306 : Nat) ({ cls := "LettersOnStrike", name := "mornings", desc := "(I)Z" } : Jvm.MethodName)) ∈ lw_all := lw_g (lw_at lw_m5 172 rfl) rfl
theorem q1290 : (Jvm.Cond.privateMethod ({ cls := "LettersOnStrike", name := "mornings", desc := "(I)Z" } : Jvm.MethodName)) ∈ lw_tbl := lw_at lw_m5 173 rfl
theorem q1291 : (Jvm.Cond.instanceMethod ({ cls := "LettersOnStrike", name := "mornings", desc := "(I)Z" } : Jvm.MethodName)) ∈ lw_all := lw_g (lw_at lw_m5 174 rfl) rfl
theorem q1292 : (Jvm.Cond.code ({ cls := "LettersOnStrike", name := "mornings", desc := "(I)Z" } : Jvm.MethodName) prog_1_method_40_code (3 : Nat) (Option.some Jvm.ClassFile.FieldType.boolean)) ∈ lw_all := lw_g (lw_at lw_m5 175 rfl) rfl
theorem q1293 : (Jvm.Cond.methodLink "LettersOnStrike" (267 : Nat) ({ cls := "LettersOnStrike", name := "morning", desc := "(I)I" } : Jvm.MethodName)) ∈ lw_all := lw_g (lw_at lw_m5 176 rfl) rfl
theorem q1294 : (Jvm.Cond.methodLink "LettersOnStrike" (325 : Nat) ({ cls := "LettersOnStrike$Doing", name := "number", desc := "()I" } : Jvm.MethodName)) ∈ lw_all := lw_g (lw_at lw_m5 177 rfl) rfl
theorem q1295 : (Jvm.Cond.instanceMethod ({ cls := "LettersOnStrike$Doing", name := "number", desc := "()I" } : Jvm.MethodName)) ∈ lw_all := lw_g (lw_at lw_m5 178 rfl) rfl
theorem q1296 : (Jvm.Cond.selects "LettersOnStrike$Doing" ({ cls := "LettersOnStrike$Doing", name := "number", desc := "()I" } : Jvm.MethodName) ({ cls := "LettersOnStrike$Doing", name := "number", desc := "()I" } : Jvm.MethodName)) ∈ lw_all := lw_g (lw_at lw_m5 179 rfl) rfl
theorem q1297 : (Jvm.Cond.code ({ cls := "LettersOnStrike$Doing", name := "number", desc := "()I" } : Jvm.MethodName) prog_6_method_9_code (1 : Nat) (Option.some Jvm.ClassFile.FieldType.int)) ∈ lw_all := lw_g (lw_at lw_m5 180 rfl) rfl
theorem q1298 : (Jvm.Cond.methodLink "LettersOnStrikeLaw" (79 : Nat) ({ cls := "LettersOnStrike", name := "year", desc := "(II)I" } : Jvm.MethodName)) ∈ lw_all := lw_g (lw_at lw_m5 181 rfl) rfl
theorem q1299 : (Jvm.Cond.instanceMethod ({ cls := "LettersOnStrike", name := "year", desc := "(II)I" } : Jvm.MethodName)) ∈ lw_all := lw_g (lw_at lw_m5 182 rfl) rfl
theorem q1300 : (Jvm.Cond.selects "LettersOnStrike" ({ cls := "LettersOnStrike", name := "year", desc := "(II)I" } : Jvm.MethodName) ({ cls := "LettersOnStrike", name := "year", desc := "(II)I" } : Jvm.MethodName)) ∈ lw_all := lw_g (lw_at lw_m5 183 rfl) rfl
theorem q1301 : (Jvm.Cond.code ({ cls := "LettersOnStrike", name := "year", desc := "(II)I" } : Jvm.MethodName) prog_1_method_46_code (5 : Nat) (Option.some Jvm.ClassFile.FieldType.int)) ∈ lw_all := lw_g (lw_at lw_m5 184 rfl) rfl
theorem q1302 : (Jvm.Cond.methodLink "LettersOnStrike" (328 : Nat) ({ cls := "LettersOnStrike", name := "draws", desc := "()V" } : Jvm.MethodName)) ∈ lw_all := lw_g (lw_at lw_m5 185 rfl) rfl
theorem q1303 : (Jvm.Cond.privateMethod ({ cls := "LettersOnStrike", name := "draws", desc := "()V" } : Jvm.MethodName)) ∈ lw_tbl := lw_at lw_m5 186 rfl
theorem q1304 : (Jvm.Cond.instanceMethod ({ cls := "LettersOnStrike", name := "draws", desc := "()V" } : Jvm.MethodName)) ∈ lw_all := lw_g (lw_at lw_m5 187 rfl) rfl
theorem q1305 : (Jvm.Cond.code ({ cls := "LettersOnStrike", name := "draws", desc := "()V" } : Jvm.MethodName) prog_1_method_44_code (1 : Nat) (Option.none : Option Jvm.ClassFile.FieldType)) ∈ lw_all := lw_g (lw_at lw_m5 188 rfl) rfl
theorem q1306 : (Jvm.Cond.methodLink "LettersOnStrike" (331 : Nat) ({ cls := "LettersOnStrike", name := "happens", desc := "(II)V" } : Jvm.MethodName)) ∈ lw_all := lw_g (lw_at lw_m5 189 rfl) rfl
theorem q1307 : (Jvm.Cond.privateMethod ({ cls := "LettersOnStrike", name := "happens", desc := "(II)V" } : Jvm.MethodName)) ∈ lw_tbl := lw_at lw_m5 190 rfl
theorem q1308 : (Jvm.Cond.instanceMethod ({ cls := "LettersOnStrike", name := "happens", desc := "(II)V" } : Jvm.MethodName)) ∈ lw_all := lw_g (lw_at lw_m5 191 rfl) rfl
theorem q1309 : (Jvm.Cond.code ({ cls := "LettersOnStrike", name := "happens", desc := "(II)V" } : Jvm.MethodName) prog_1_method_45_code (3 : Nat) (Option.none : Option Jvm.ClassFile.FieldType)) ∈ lw_all := lw_g (lw_at lw_m5 192 rfl) rfl
theorem q1310 : (Jvm.Cond.methodLink "LettersOnStrikeLaw" (84 : Nat) ({ cls := "LettersOnStrike", name := "undo", desc := "()I" } : Jvm.MethodName)) ∈ lw_all := lw_g (lw_at lw_m5 193 rfl) rfl
theorem q1311 : (Jvm.Cond.instanceMethod ({ cls := "LettersOnStrike", name := "undo", desc := "()I" } : Jvm.MethodName)) ∈ lw_all := lw_g (lw_at lw_m5 194 rfl) rfl
theorem q1312 : (Jvm.Cond.selects "LettersOnStrike" ({ cls := "LettersOnStrike", name := "undo", desc := "()I" } : Jvm.MethodName) ({ cls := "LettersOnStrike", name := "undo", desc := "()I" } : Jvm.MethodName)) ∈ lw_all := lw_g (lw_at lw_m5 195 rfl) rfl
theorem q1313 : (Jvm.Cond.code ({ cls := "LettersOnStrike", name := "undo", desc := "()I" } : Jvm.MethodName) prog_1_method_47_code (1 : Nat) (Option.some Jvm.ClassFile.FieldType.int)) ∈ lw_all := lw_g (lw_at lw_m5 196 rfl) rfl
theorem q1314 : (Jvm.Cond.methodLinkNest "LettersOnStrike" (338 : Nat) ({ cls := "LettersOnStrike$State", name := "copy", desc := "([I[I)V" } : Jvm.MethodName) "LettersOnStrike") ∈ lw_tbl := lw_at lw_m5 197 rfl
theorem q1315 : (Jvm.Cond.methodLink "LettersOnStrikeLaw" (88 : Nat) ({ cls := "LettersOnStrike", name := "of", desc := "(II)I" } : Jvm.MethodName)) ∈ lw_all := lw_g (lw_at lw_m5 198 rfl) rfl
theorem q1316 : (Jvm.Cond.instanceMethod ({ cls := "LettersOnStrike", name := "of", desc := "(II)I" } : Jvm.MethodName)) ∈ lw_all := lw_g (lw_at lw_m5 199 rfl) rfl
theorem q1317 : (Jvm.Cond.selects "LettersOnStrike" ({ cls := "LettersOnStrike", name := "of", desc := "(II)I" } : Jvm.MethodName) ({ cls := "LettersOnStrike", name := "of", desc := "(II)I" } : Jvm.MethodName)) ∈ lw_all := lw_g (lw_at lw_m5 200 rfl) rfl
theorem q1318 : (Jvm.Cond.code ({ cls := "LettersOnStrike", name := "of", desc := "(II)I" } : Jvm.MethodName) prog_1_method_48_code (3 : Nat) (Option.some Jvm.ClassFile.FieldType.int)) ∈ lw_all := lw_g (lw_at lw_m5 201 rfl) rfl
theorem q1319 : (Jvm.Cond.methodLink "LettersOnStrikeLaw" (92 : Nat) ({ cls := "LettersOnStrike", name := "ofWord", desc := "(II)I" } : Jvm.MethodName)) ∈ lw_all := lw_g (lw_at lw_m5 202 rfl) rfl
theorem q1320 : (Jvm.Cond.instanceMethod ({ cls := "LettersOnStrike", name := "ofWord", desc := "(II)I" } : Jvm.MethodName)) ∈ lw_all := lw_g (lw_at lw_m5 203 rfl) rfl
theorem q1321 : (Jvm.Cond.selects "LettersOnStrike" ({ cls := "LettersOnStrike", name := "ofWord", desc := "(II)I" } : Jvm.MethodName) ({ cls := "LettersOnStrike", name := "ofWord", desc := "(II)I" } : Jvm.MethodName)) ∈ lw_all := lw_g (lw_at lw_m5 204 rfl) rfl
theorem q1322 : (Jvm.Cond.code ({ cls := "LettersOnStrike", name := "ofWord", desc := "(II)I" } : Jvm.MethodName) prog_1_method_50_code (4 : Nat) (Option.some Jvm.ClassFile.FieldType.int)) ∈ lw_all := lw_g (lw_at lw_m5 205 rfl) rfl
theorem q1323 : (Jvm.Cond.methodLink "LettersOnStrike" (342 : Nat) ({ cls := "LettersOnStrike", name := "isWord", desc := "(I)Z" } : Jvm.MethodName)) ∈ lw_all := lw_g (lw_at lw_m5 206 rfl) rfl
theorem q1324 : (Jvm.Cond.privateMethod ({ cls := "LettersOnStrike", name := "isWord", desc := "(I)Z" } : Jvm.MethodName)) ∈ lw_tbl := lw_at lw_m5 207 rfl
theorem q1325 : (Jvm.Cond.instanceMethod ({ cls := "LettersOnStrike", name := "isWord", desc := "(I)Z" } : Jvm.MethodName)) ∈ lw_all := lw_g (lw_at lw_m5 208 rfl) rfl
theorem q1326 : (Jvm.Cond.code ({ cls := "LettersOnStrike", name := "isWord", desc := "(I)Z" } : Jvm.MethodName) prog_1_method_5_code (2 : Nat) (Option.some Jvm.ClassFile.FieldType.boolean)) ∈ lw_all := lw_g (lw_at lw_m5 209 rfl) rfl
theorem q1327 : (Jvm.Cond.methodLink "LettersOnStrikeLaw" (96 : Nat) ({ cls := "LettersOnStrike", name := "ofSaying", desc := "(II)I" } : Jvm.MethodName)) ∈ lw_all := lw_g (lw_at lw_m5 210 rfl) rfl
theorem q1328 : (Jvm.Cond.instanceMethod ({ cls := "LettersOnStrike", name := "ofSaying", desc := "(II)I" } : Jvm.MethodName)) ∈ lw_all := lw_g (lw_at lw_m5 211 rfl) rfl
theorem q1329 : (Jvm.Cond.selects "LettersOnStrike" ({ cls := "LettersOnStrike", name := "ofSaying", desc := "(II)I" } : Jvm.MethodName) ({ cls := "LettersOnStrike", name := "ofSaying", desc := "(II)I" } : Jvm.MethodName)) ∈ lw_all := lw_g (lw_at lw_m5 212 rfl) rfl
theorem q1330 : (Jvm.Cond.code ({ cls := "LettersOnStrike", name := "ofSaying", desc := "(II)I" } : Jvm.MethodName) prog_1_method_51_code (3 : Nat) (Option.some Jvm.ClassFile.FieldType.int)) ∈ lw_all := lw_g (lw_at lw_m5 213 rfl) rfl
theorem q1331 : (Jvm.Cond.methodLink "LettersOnStrikeLaw" (100 : Nat) ({ cls := "LettersOnStrike", name := "mistaken", desc := "(II)Z" } : Jvm.MethodName)) ∈ lw_all := lw_g (lw_at lw_m5 214 rfl) rfl
theorem q1332 : (Jvm.Cond.instanceMethod ({ cls := "LettersOnStrike", name := "mistaken", desc := "(II)Z" } : Jvm.MethodName)) ∈ lw_all := lw_g (lw_at lw_m5 215 rfl) rfl
theorem q1333 : (Jvm.Cond.selects "LettersOnStrike" ({ cls := "LettersOnStrike", name := "mistaken", desc := "(II)Z" } : Jvm.MethodName) ({ cls := "LettersOnStrike", name := "mistaken", desc := "(II)Z" } : Jvm.MethodName)) ∈ lw_all := lw_g (lw_at lw_m5 216 rfl) rfl
theorem q1334 : (Jvm.Cond.code ({ cls := "LettersOnStrike", name := "mistaken", desc := "(II)Z" } : Jvm.MethodName) prog_1_method_53_code (4 : Nat) (Option.some Jvm.ClassFile.FieldType.boolean)) ∈ lw_all := lw_g (lw_at lw_m5 217 rfl) rfl
theorem q1335 : (Jvm.Cond.methodLink "LettersOnStrike" (348 : Nat) ({ cls := "LettersOnStrike", name := "looks", desc := "(I)I" } : Jvm.MethodName)) ∈ lw_all := lw_g (lw_at lw_m5 218 rfl) rfl
theorem q1336 : (Jvm.Cond.privateMethod ({ cls := "LettersOnStrike", name := "looks", desc := "(I)I" } : Jvm.MethodName)) ∈ lw_tbl := lw_at lw_m5 219 rfl
theorem q1337 : (Jvm.Cond.instanceMethod ({ cls := "LettersOnStrike", name := "looks", desc := "(I)I" } : Jvm.MethodName)) ∈ lw_all := lw_g (lw_at lw_m5 220 rfl) rfl
theorem q1338 : (Jvm.Cond.code ({ cls := "LettersOnStrike", name := "looks", desc := "(I)I" } : Jvm.MethodName) prog_1_method_52_code (2 : Nat) (Option.some Jvm.ClassFile.FieldType.int)) ∈ lw_all := lw_g (lw_at lw_m5 221 rfl) rfl
theorem q1339 : (Jvm.Cond.methodLink "LettersOnStrikeLaw" (104 : Nat) ({ cls := "LettersOnStrike", name := "said", desc := "(III)I" } : Jvm.MethodName)) ∈ lw_all := lw_g (lw_at lw_m5 222 rfl) rfl
theorem q1340 : (Jvm.Cond.instanceMethod ({ cls := "LettersOnStrike", name := "said", desc := "(III)I" } : Jvm.MethodName)) ∈ lw_all := lw_g (lw_at lw_m5 223 rfl) rfl
theorem q1341 : (Jvm.Cond.selects "LettersOnStrike" ({ cls := "LettersOnStrike", name := "said", desc := "(III)I" } : Jvm.MethodName) ({ cls := "LettersOnStrike", name := "said", desc := "(III)I" } : Jvm.MethodName)) ∈ lw_all := lw_g (lw_at lw_m5 224 rfl) rfl
theorem q1342 : (Jvm.Cond.code ({ cls := "LettersOnStrike", name := "said", desc := "(III)I" } : Jvm.MethodName) prog_1_method_56_code (6 : Nat) (Option.some Jvm.ClassFile.FieldType.int)) ∈ lw_all := lw_g (lw_at lw_m5 225 rfl) rfl
theorem q1343 : (Jvm.Cond.methodLink "LettersOnStrikeLaw" (108 : Nat) ({ cls := "LettersOnStrike", name := "dear", desc := "(I)I" } : Jvm.MethodName)) ∈ lw_all := lw_g (lw_at lw_m5 226 rfl) rfl
theorem q1344 : (Jvm.Cond.instanceMethod ({ cls := "LettersOnStrike", name := "dear", desc := "(I)I" } : Jvm.MethodName)) ∈ lw_all := lw_g (lw_at lw_m5 227 rfl) rfl
theorem q1345 : (Jvm.Cond.selects "LettersOnStrike" ({ cls := "LettersOnStrike", name := "dear", desc := "(I)I" } : Jvm.MethodName) ({ cls := "LettersOnStrike", name := "dear", desc := "(I)I" } : Jvm.MethodName)) ∈ lw_all := lw_g (lw_at lw_m5 228 rfl) rfl
theorem q1346 : (Jvm.Cond.code ({ cls := "LettersOnStrike", name := "dear", desc := "(I)I" } : Jvm.MethodName) prog_1_method_57_code (4 : Nat) (Option.some Jvm.ClassFile.FieldType.int)) ∈ lw_all := lw_g (lw_at lw_m5 229 rfl) rfl
theorem q1347 : (Jvm.Cond.methodLink "LettersOnStrike" (354 : Nat) ({ cls := "LettersOnStrike", name := "priceOf", desc := "(LLettersOnStrike$Word;)I" } : Jvm.MethodName)) ∈ lw_all := lw_g (lw_at lw_m5 230 rfl) rfl
theorem q1348 : (Jvm.Cond.privateMethod ({ cls := "LettersOnStrike", name := "priceOf", desc := "(LLettersOnStrike$Word;)I" } : Jvm.MethodName)) ∈ lw_tbl := lw_at lw_m5 231 rfl
theorem q1349 : (Jvm.Cond.instanceMethod ({ cls := "LettersOnStrike", name := "priceOf", desc := "(LLettersOnStrike$Word;)I" } : Jvm.MethodName)) ∈ lw_all := lw_g (lw_at lw_m5 232 rfl) rfl
theorem q1350 : (Jvm.Cond.code ({ cls := "LettersOnStrike", name := "priceOf", desc := "(LLettersOnStrike$Word;)I" } : Jvm.MethodName) prog_1_method_27_code (7 : Nat) (Option.some Jvm.ClassFile.FieldType.int)) ∈ lw_all := lw_g (lw_at lw_m5 233 rfl) rfl
theorem q1351 : (Jvm.Cond.constantLong "LettersOnStrike" (205 : Nat) (999 : Int64)) ∈ lw_all := lw_g (lw_at lw_m5 234 rfl) rfl
theorem q1352 : (Jvm.Cond.interfaceEntry "LettersOnStrike" (207 : Nat)) ∈ lw_tbl := lw_at lw_m5 235 rfl
theorem q1353 : (Jvm.Cond.methodLink "LettersOnStrike" (207 : Nat) ({ cls := "LettersOnStrike$Sum", name := "of", desc := "([I)J" } : Jvm.MethodName)) ∈ lw_all := lw_g (lw_at lw_m5 236 rfl) rfl
theorem q1354 : (Jvm.Cond.methodLink "LettersOnStrike" (213 : Nat) ({ cls := "java/lang/Math", name := "min", desc := "(JJ)J" } : Jvm.MethodName)) ∈ lw_all := lw_g (lw_at lw_m5 237 rfl) rfl
theorem q1355 : (Jvm.Cond.methodLink "LettersOnStrike" (219 : Nat) ({ cls := "java/lang/Math", name := "max", desc := "(JJ)J" } : Jvm.MethodName)) ∈ lw_all := lw_g (lw_at lw_m5 238 rfl) rfl
theorem q1356 : (Jvm.Cond.methodLink "LettersOnStrikeLaw" (112 : Nat) ({ cls := "LettersOnStrike", name := "stop", desc := "(I)I" } : Jvm.MethodName)) ∈ lw_all := lw_g (lw_at lw_m5 239 rfl) rfl
theorem q1357 : (Jvm.Cond.instanceMethod ({ cls := "LettersOnStrike", name := "stop", desc := "(I)I" } : Jvm.MethodName)) ∈ lw_all := lw_g (lw_at lw_m6 0 rfl) rfl
theorem q1358 : (Jvm.Cond.selects "LettersOnStrike" ({ cls := "LettersOnStrike", name := "stop", desc := "(I)I" } : Jvm.MethodName) ({ cls := "LettersOnStrike", name := "stop", desc := "(I)I" } : Jvm.MethodName)) ∈ lw_all := lw_g (lw_at lw_m6 1 rfl) rfl
theorem q1359 : (Jvm.Cond.code ({ cls := "LettersOnStrike", name := "stop", desc := "(I)I" } : Jvm.MethodName) prog_1_method_59_code (4 : Nat) (Option.some Jvm.ClassFile.FieldType.int)) ∈ lw_all := lw_g (lw_at lw_m6 2 rfl) rfl
theorem q1360 : (Jvm.Cond.methodLink "LettersOnStrike" (358 : Nat) ({ cls := "LettersOnStrike", name := "stops", desc := "(IIII)I" } : Jvm.MethodName)) ∈ lw_all := lw_g (lw_at lw_m6 3 rfl) rfl
theorem q1361 : (Jvm.Cond.privateMethod ({ cls := "LettersOnStrike", name := "stops", desc := "(IIII)I" } : Jvm.MethodName)) ∈ lw_tbl := lw_at lw_m6 4 rfl
theorem q1362 : (Jvm.Cond.instanceMethod ({ cls := "LettersOnStrike", name := "stops", desc := "(IIII)I" } : Jvm.MethodName)) ∈ lw_all := lw_g (lw_at lw_m6 5 rfl) rfl
theorem q1363 : (Jvm.Cond.code ({ cls := "LettersOnStrike", name := "stops", desc := "(IIII)I" } : Jvm.MethodName) prog_1_method_58_code (7 : Nat) (Option.some Jvm.ClassFile.FieldType.int)) ∈ lw_all := lw_g (lw_at lw_m6 6 rfl) rfl
theorem q1364 : (Jvm.Cond.methodLink "LettersOnStrikeLaw" (116 : Nat) ({ cls := "LettersOnStrike", name := "spared", desc := "(Z)I" } : Jvm.MethodName)) ∈ lw_all := lw_g (lw_at lw_m6 7 rfl) rfl
theorem q1365 : (Jvm.Cond.instanceMethod ({ cls := "LettersOnStrike", name := "spared", desc := "(Z)I" } : Jvm.MethodName)) ∈ lw_all := lw_g (lw_at lw_m6 8 rfl) rfl
theorem q1366 : (Jvm.Cond.selects "LettersOnStrike" ({ cls := "LettersOnStrike", name := "spared", desc := "(Z)I" } : Jvm.MethodName) ({ cls := "LettersOnStrike", name := "spared", desc := "(Z)I" } : Jvm.MethodName)) ∈ lw_all := lw_g (lw_at lw_m6 9 rfl) rfl
theorem q1367 : (Jvm.Cond.code ({ cls := "LettersOnStrike", name := "spared", desc := "(Z)I" } : Jvm.MethodName) prog_1_method_61_code (6 : Nat) (Option.some Jvm.ClassFile.FieldType.int)) ∈ lw_all := lw_g (lw_at lw_m6 10 rfl) rfl
theorem q1368 : (Jvm.Cond.methodLink "LettersOnStrike" (362 : Nat) ({ cls := "LettersOnStrike", name := "lost", desc := "(I)I" } : Jvm.MethodName)) ∈ lw_all := lw_g (lw_at lw_m6 11 rfl) rfl
theorem q1369 : (Jvm.Cond.privateMethod ({ cls := "LettersOnStrike", name := "lost", desc := "(I)I" } : Jvm.MethodName)) ∈ lw_tbl := lw_at lw_m6 12 rfl
theorem q1370 : (Jvm.Cond.instanceMethod ({ cls := "LettersOnStrike", name := "lost", desc := "(I)I" } : Jvm.MethodName)) ∈ lw_all := lw_g (lw_at lw_m6 13 rfl) rfl
theorem q1371 : (Jvm.Cond.code ({ cls := "LettersOnStrike", name := "lost", desc := "(I)I" } : Jvm.MethodName) prog_1_method_60_code (4 : Nat) (Option.some Jvm.ClassFile.FieldType.int)) ∈ lw_all := lw_g (lw_at lw_m6 14 rfl) rfl
theorem q1372 : (Jvm.Cond.methodLink "LettersOnStrikeLaw" (121 : Nat) ({ cls := "LettersOnStrike", name := "power", desc := "(IIIZ)I" } : Jvm.MethodName)) ∈ lw_all := lw_g (lw_at lw_m6 15 rfl) rfl
theorem q1373 : (Jvm.Cond.instanceMethod ({ cls := "LettersOnStrike", name := "power", desc := "(IIIZ)I" } : Jvm.MethodName)) ∈ lw_all := lw_g (lw_at lw_m6 16 rfl) rfl
theorem q1374 : (Jvm.Cond.selects "LettersOnStrike" ({ cls := "LettersOnStrike", name := "power", desc := "(IIIZ)I" } : Jvm.MethodName) ({ cls := "LettersOnStrike", name := "power", desc := "(IIIZ)I" } : Jvm.MethodName)) ∈ lw_all := lw_g (lw_at lw_m6 17 rfl) rfl
theorem q1375 : (Jvm.Cond.code ({ cls := "LettersOnStrike", name := "power", desc := "(IIIZ)I" } : Jvm.MethodName) prog_1_method_66_code (11 : Nat) (Option.some Jvm.ClassFile.FieldType.int)) ∈ lw_all := lw_g (lw_at lw_m6 18 rfl) rfl
theorem q1376 : (Jvm.Cond.methodLink "LettersOnStrike" (371 : Nat) ({ cls := "LettersOnStrike", name := "isGroup", desc := "(I)Z" } : Jvm.MethodName)) ∈ lw_all := lw_g (lw_at lw_m6 19 rfl) rfl
theorem q1377 : (Jvm.Cond.static ({ cls := "LettersOnStrike", name := "isGroup", desc := "(I)Z" } : Jvm.MethodName)) ∈ lw_all := lw_g (lw_at lw_m6 20 rfl) rfl
theorem q1378 : (Jvm.Cond.code ({ cls := "LettersOnStrike", name := "isGroup", desc := "(I)Z" } : Jvm.MethodName) prog_1_method_65_code (1 : Nat) (Option.some Jvm.ClassFile.FieldType.boolean)) ∈ lw_all := lw_g (lw_at lw_m6 21 rfl) rfl
theorem q1379 : (Jvm.Cond.methodLink "LettersOnStrike" (365 : Nat) ({ cls := "LettersOnStrike", name := "orders", desc := "(I)I" } : Jvm.MethodName)) ∈ lw_all := lw_g (lw_at lw_m6 22 rfl) rfl
theorem q1380 : (Jvm.Cond.static ({ cls := "LettersOnStrike", name := "orders", desc := "(I)I" } : Jvm.MethodName)) ∈ lw_all := lw_g (lw_at lw_m6 23 rfl) rfl
theorem q1381 : (Jvm.Cond.code ({ cls := "LettersOnStrike", name := "orders", desc := "(I)I" } : Jvm.MethodName) prog_1_method_62_code (1 : Nat) (Option.some Jvm.ClassFile.FieldType.int)) ∈ lw_all := lw_g (lw_at lw_m6 24 rfl) rfl
theorem q1382 : (Jvm.Cond.methodLink "LettersOnStrike" (374 : Nat) ({ cls := "LettersOnStrike", name := "inLowest", desc := "(IIZ)I" } : Jvm.MethodName)) ∈ lw_all := lw_g (lw_at lw_m6 25 rfl) rfl
theorem q1383 : (Jvm.Cond.static ({ cls := "LettersOnStrike", name := "inLowest", desc := "(IIZ)I" } : Jvm.MethodName)) ∈ lw_all := lw_g (lw_at lw_m6 26 rfl) rfl
theorem q1384 : (Jvm.Cond.code ({ cls := "LettersOnStrike", name := "inLowest", desc := "(IIZ)I" } : Jvm.MethodName) prog_1_method_64_code (4 : Nat) (Option.some Jvm.ClassFile.FieldType.int)) ∈ lw_all := lw_g (lw_at lw_m6 27 rfl) rfl
theorem q1385 : (Jvm.Cond.methodLink "LettersOnStrike" (368 : Nat) ({ cls := "LettersOnStrike", name := "common", desc := "(II)I" } : Jvm.MethodName)) ∈ lw_all := lw_g (lw_at lw_m6 28 rfl) rfl
theorem q1386 : (Jvm.Cond.static ({ cls := "LettersOnStrike", name := "common", desc := "(II)I" } : Jvm.MethodName)) ∈ lw_all := lw_g (lw_at lw_m6 29 rfl) rfl
theorem q1387 : (Jvm.Cond.code ({ cls := "LettersOnStrike", name := "common", desc := "(II)I" } : Jvm.MethodName) prog_1_method_63_code (2 : Nat) (Option.some Jvm.ClassFile.FieldType.int)) ∈ lw_all := lw_g (lw_at lw_m6 30 rfl) rfl
theorem q1388 : (Jvm.Cond.methodLink "LettersOnStrikeLaw" (126 : Nat) ({ cls := "LettersOnStrike", name := "party", desc := "(I)I" } : Jvm.MethodName)) ∈ lw_all := lw_g (lw_at lw_m6 31 rfl) rfl
theorem q1389 : (Jvm.Cond.instanceMethod ({ cls := "LettersOnStrike", name := "party", desc := "(I)I" } : Jvm.MethodName)) ∈ lw_all := lw_g (lw_at lw_m6 32 rfl) rfl
theorem q1390 : (Jvm.Cond.selects "LettersOnStrike" ({ cls := "LettersOnStrike", name := "party", desc := "(I)I" } : Jvm.MethodName) ({ cls := "LettersOnStrike", name := "party", desc := "(I)I" } : Jvm.MethodName)) ∈ lw_all := lw_g (lw_at lw_m6 33 rfl) rfl
theorem q1391 : (Jvm.Cond.code ({ cls := "LettersOnStrike", name := "party", desc := "(I)I" } : Jvm.MethodName) prog_1_method_67_code (2 : Nat) (Option.some Jvm.ClassFile.FieldType.int)) ∈ lw_all := lw_g (lw_at lw_m6 34 rfl) rfl
theorem q1392 : (Jvm.Cond.methodLink "LettersOnStrikeLaw" (130 : Nat) ({ cls := "LettersOnStrike", name := "worth", desc := "(I)I" } : Jvm.MethodName)) ∈ lw_all := lw_g (lw_at lw_m6 35 rfl) rfl
theorem q1393 : (Jvm.Cond.instanceMethod ({ cls := "LettersOnStrike", name := "worth", desc := "(I)I" } : Jvm.MethodName)) ∈ lw_all := lw_g (lw_at lw_m6 36 rfl) rfl
theorem q1394 : (Jvm.Cond.selects "LettersOnStrike" ({ cls := "LettersOnStrike", name := "worth", desc := "(I)I" } : Jvm.MethodName) ({ cls := "LettersOnStrike", name := "worth", desc := "(I)I" } : Jvm.MethodName)) ∈ lw_all := lw_g (lw_at lw_m6 37 rfl) rfl
theorem q1395 : (Jvm.Cond.code ({ cls := "LettersOnStrike", name := "worth", desc := "(I)I" } : Jvm.MethodName) prog_1_method_69_code (2 : Nat) (Option.some Jvm.ClassFile.FieldType.int)) ∈ lw_all := lw_g (lw_at lw_m6 38 rfl) rfl
theorem q1396 : (Jvm.Cond.methodLink "LettersOnStrike" (381 : Nat) ({ cls := "LettersOnStrike", name := "worthOf", desc := "(I)I" } : Jvm.MethodName)) ∈ lw_all := lw_g (lw_at lw_m6 39 rfl) rfl
theorem q1397 : (Jvm.Cond.privateMethod ({ cls := "LettersOnStrike", name := "worthOf", desc := "(I)I" } : Jvm.MethodName)) ∈ lw_tbl := lw_at lw_m6 40 rfl
theorem q1398 : (Jvm.Cond.instanceMethod ({ cls := "LettersOnStrike", name := "worthOf", desc := "(I)I" } : Jvm.MethodName)) ∈ lw_all := lw_g (lw_at lw_m6 41 rfl) rfl
theorem q1399 : (Jvm.Cond.code ({ cls := "LettersOnStrike", name := "worthOf", desc := "(I)I" } : Jvm.MethodName) prog_1_method_68_code (4 : Nat) (Option.some Jvm.ClassFile.FieldType.int)) ∈ lw_all := lw_g (lw_at lw_m6 42 rfl) rfl
theorem q1400 : (Jvm.Cond.methodLink "LettersOnStrikeLaw" (134 : Nat) ({ cls := "LettersOnStrike", name := "core", desc := "(II)I" } : Jvm.MethodName)) ∈ lw_all := lw_g (lw_at lw_m6 43 rfl) rfl
theorem q1401 : (Jvm.Cond.instanceMethod ({ cls := "LettersOnStrike", name := "core", desc := "(II)I" } : Jvm.MethodName)) ∈ lw_all := lw_g (lw_at lw_m6 44 rfl) rfl
theorem q1402 : (Jvm.Cond.selects "LettersOnStrike" ({ cls := "LettersOnStrike", name := "core", desc := "(II)I" } : Jvm.MethodName) ({ cls := "LettersOnStrike", name := "core", desc := "(II)I" } : Jvm.MethodName)) ∈ lw_all := lw_g (lw_at lw_m6 45 rfl) rfl
theorem q1403 : (Jvm.Cond.code ({ cls := "LettersOnStrike", name := "core", desc := "(II)I" } : Jvm.MethodName) prog_1_method_72_code (4 : Nat) (Option.some Jvm.ClassFile.FieldType.int)) ∈ lw_all := lw_g (lw_at lw_m6 46 rfl) rfl
theorem q1404 : (Jvm.Cond.methodLink "LettersOnStrike" (388 : Nat) ({ cls := "LettersOnStrike", name := "shares", desc := "(II)Z" } : Jvm.MethodName)) ∈ lw_all := lw_g (lw_at lw_m6 47 rfl) rfl
theorem q1405 : (Jvm.Cond.privateMethod ({ cls := "LettersOnStrike", name := "shares", desc := "(II)Z" } : Jvm.MethodName)) ∈ lw_tbl := lw_at lw_m6 48 rfl
theorem q1406 : (Jvm.Cond.instanceMethod ({ cls := "LettersOnStrike", name := "shares", desc := "(II)Z" } : Jvm.MethodName)) ∈ lw_all := lw_g (lw_at lw_m6 49 rfl) rfl
theorem q1407 : (Jvm.Cond.code ({ cls := "LettersOnStrike", name := "shares", desc := "(II)Z" } : Jvm.MethodName) prog_1_method_71_code (4 : Nat) (Option.some Jvm.ClassFile.FieldType.boolean)) ∈ lw_all := lw_g (lw_at lw_m6 50 rfl) rfl
theorem q1408 : (Jvm.Cond.methodLink "LettersOnStrike" (384 : Nat) ({ cls := "LettersOnStrike", name := "areKept", desc := "()Z" } : Jvm.MethodName)) ∈ lw_all := lw_g (lw_at lw_m6 51 rfl) rfl
theorem q1409 : (Jvm.Cond.privateMethod ({ cls := "LettersOnStrike", name := "areKept", desc := "()Z" } : Jvm.MethodName)) ∈ lw_tbl := lw_at lw_m6 52 rfl
theorem q1410 : (Jvm.Cond.instanceMethod ({ cls := "LettersOnStrike", name := "areKept", desc := "()Z" } : Jvm.MethodName)) ∈ lw_all := lw_g (lw_at lw_m6 53 rfl) rfl
theorem q1411 : (Jvm.Cond.code ({ cls := "LettersOnStrike", name := "areKept", desc := "()Z" } : Jvm.MethodName) prog_1_method_70_code (4 : Nat) (Option.some Jvm.ClassFile.FieldType.boolean)) ∈ lw_all := lw_g (lw_at lw_m6 54 rfl) rfl
theorem q1412 : (Jvm.Cond.methodLink "LettersOnStrikeLaw" (138 : Nat) ({ cls := "LettersOnStrike", name := "game", desc := "(IIZ)I" } : Jvm.MethodName)) ∈ lw_all := lw_g (lw_at lw_m6 55 rfl) rfl
theorem q1413 : (Jvm.Cond.instanceMethod ({ cls := "LettersOnStrike", name := "game", desc := "(IIZ)I" } : Jvm.MethodName)) ∈ lw_all := lw_g (lw_at lw_m6 56 rfl) rfl
theorem q1414 : (Jvm.Cond.selects "LettersOnStrike" ({ cls := "LettersOnStrike", name := "game", desc := "(IIZ)I" } : Jvm.MethodName) ({ cls := "LettersOnStrike", name := "game", desc := "(IIZ)I" } : Jvm.MethodName)) ∈ lw_all := lw_g (lw_at lw_m6 57 rfl) rfl
theorem q1415 : (Jvm.Cond.code ({ cls := "LettersOnStrike", name := "game", desc := "(IIZ)I" } : Jvm.MethodName) prog_1_method_76_code (6 : Nat) (Option.some Jvm.ClassFile.FieldType.int)) ∈ lw_all := lw_g (lw_at lw_m6 58 rfl) rfl
theorem q1416 : (Jvm.Cond.methodLink "LettersOnStrike" (403 : Nat) ({ cls := "java/util/Arrays", name := "fill", desc := "([BB)V" } : Jvm.MethodName)) ∈ lw_all := lw_g (lw_at lw_m6 59 rfl) rfl
theorem q1417 : (Jvm.Cond.static ({ cls := "java/util/Arrays", name := "fill", desc := "([BB)V" } : Jvm.MethodName)) ∈ lw_all := lw_g (lw_at lw_m6 60 rfl) rfl
theorem q1418 : (Jvm.Cond.code ({ cls := "java/util/Arrays", name := "fill", desc := "([BB)V" } : Jvm.MethodName) prog_41_method_109_code (4 : Nat) (Option.none : Option Jvm.ClassFile.FieldType)) ∈ lw_all := lw_g (lw_at lw_m6 61 rfl) rfl
theorem q1419 : (Jvm.Cond.methodLink "LettersOnStrike" (400 : Nat) ({ cls := "LettersOnStrike", name := "doesWin", desc := "(II)Z" } : Jvm.MethodName)) ∈ lw_all := lw_g (lw_at lw_m6 62 rfl) rfl
theorem q1420 : (Jvm.Cond.privateMethod ({ cls := "LettersOnStrike", name := "doesWin", desc := "(II)Z" } : Jvm.MethodName)) ∈ lw_tbl := lw_at lw_m6 63 rfl
theorem q1421 : (Jvm.Cond.instanceMethod ({ cls := "LettersOnStrike", name := "doesWin", desc := "(II)Z" } : Jvm.MethodName)) ∈ lw_all := lw_g (lw_at lw_m6 64 rfl) rfl
theorem q1422 : (Jvm.Cond.code ({ cls := "LettersOnStrike", name := "doesWin", desc := "(II)Z" } : Jvm.MethodName) prog_1_method_74_code (5 : Nat) (Option.some Jvm.ClassFile.FieldType.boolean)) ∈ lw_all := lw_g (lw_at lw_m6 65 rfl) rfl
theorem q1423 : (Jvm.Cond.methodLink "LettersOnStrike" (394 : Nat) ({ cls := "LettersOnStrike", name := "isGood", desc := "(III)Z" } : Jvm.MethodName)) ∈ lw_all := lw_g (lw_at lw_m6 66 rfl) rfl
theorem q1424 : (Jvm.Cond.privateMethod ({ cls := "LettersOnStrike", name := "isGood", desc := "(III)Z" } : Jvm.MethodName)) ∈ lw_tbl := lw_at lw_m6 67 rfl
theorem q1425 : (Jvm.Cond.instanceMethod ({ cls := "LettersOnStrike", name := "isGood", desc := "(III)Z" } : Jvm.MethodName)) ∈ lw_all := lw_g (lw_at lw_m6 68 rfl) rfl
theorem q1426 : (Jvm.Cond.code ({ cls := "LettersOnStrike", name := "isGood", desc := "(III)Z" } : Jvm.MethodName) prog_1_method_75_code (4 : Nat) (Option.some Jvm.ClassFile.FieldType.boolean)) ∈ lw_all := lw_g (lw_at lw_m6 69 rfl) rfl
theorem q1427 : (Jvm.Cond.methodLink "LettersOnStrike" (397 : Nat) ({ cls := "LettersOnStrike", name := "outOf", desc := "(I)I" } : Jvm.MethodName)) ∈ lw_all := lw_g (lw_at lw_m6 70 rfl) rfl
theorem q1428 : (Jvm.Cond.privateMethod ({ cls := "LettersOnStrike", name := "outOf", desc := "(I)I" } : Jvm.MethodName)) ∈ lw_tbl := lw_at lw_m6 71 rfl
theorem q1429 : (Jvm.Cond.instanceMethod ({ cls := "LettersOnStrike", name := "outOf", desc := "(I)I" } : Jvm.MethodName)) ∈ lw_all := lw_g (lw_at lw_m6 72 rfl) rfl
theorem q1430 : (Jvm.Cond.code ({ cls := "LettersOnStrike", name := "outOf", desc := "(I)I" } : Jvm.MethodName) prog_1_method_73_code (4 : Nat) (Option.some Jvm.ClassFile.FieldType.int)) ∈ lw_all := lw_g (lw_at lw_m6 73 rfl) rfl
theorem q1431 : (Jvm.Cond.methodLink "LettersOnStrikeLaw" (143 : Nat) ({ cls := "LettersOnStrike", name := "signsFor", desc := "(II)I" } : Jvm.MethodName)) ∈ lw_all := lw_g (lw_at lw_m6 74 rfl) rfl
theorem q1432 : (Jvm.Cond.instanceMethod ({ cls := "LettersOnStrike", name := "signsFor", desc := "(II)I" } : Jvm.MethodName)) ∈ lw_all := lw_g (lw_at lw_m6 75 rfl) rfl
theorem q1433 : (Jvm.Cond.selects "LettersOnStrike" ({ cls := "LettersOnStrike", name := "signsFor", desc := "(II)I" } : Jvm.MethodName) ({ cls := "LettersOnStrike", name := "signsFor", desc := "(II)I" } : Jvm.MethodName)) ∈ lw_all := lw_g (lw_at lw_m6 76 rfl) rfl
theorem q1434 : (Jvm.Cond.code ({ cls := "LettersOnStrike", name := "signsFor", desc := "(II)I" } : Jvm.MethodName) prog_1_method_80_code (4 : Nat) (Option.some Jvm.ClassFile.FieldType.int)) ∈ lw_all := lw_g (lw_at lw_m6 77 rfl) rfl
theorem q1435 : (Jvm.Cond.methodLink "LettersOnStrike" (420 : Nat) ({ cls := "java/util/Arrays", name := "fill", desc := "([II)V" } : Jvm.MethodName)) ∈ lw_all := lw_g (lw_at lw_m6 78 rfl) rfl
theorem q1436 : (Jvm.Cond.static ({ cls := "java/util/Arrays", name := "fill", desc := "([II)V" } : Jvm.MethodName)) ∈ lw_all := lw_g (lw_at lw_m6 79 rfl) rfl
theorem q1437 : (Jvm.Cond.code ({ cls := "java/util/Arrays", name := "fill", desc := "([II)V" } : Jvm.MethodName) prog_41_method_103_code (4 : Nat) (Option.none : Option Jvm.ClassFile.FieldType)) ∈ lw_all := lw_g (lw_at lw_m6 80 rfl) rfl
theorem q1438 : (Jvm.Cond.methodLink "LettersOnStrike" (416 : Nat) ({ cls := "LettersOnStrike", name := "signs", desc := "(IIII)Z" } : Jvm.MethodName)) ∈ lw_all := lw_g (lw_at lw_m6 81 rfl) rfl
theorem q1439 : (Jvm.Cond.privateMethod ({ cls := "LettersOnStrike", name := "signs", desc := "(IIII)Z" } : Jvm.MethodName)) ∈ lw_tbl := lw_at lw_m6 82 rfl
theorem q1440 : (Jvm.Cond.instanceMethod ({ cls := "LettersOnStrike", name := "signs", desc := "(IIII)Z" } : Jvm.MethodName)) ∈ lw_all := lw_g (lw_at lw_m6 83 rfl) rfl
theorem q1441 : (Jvm.Cond.code ({ cls := "LettersOnStrike", name := "signs", desc := "(IIII)Z" } : Jvm.MethodName) prog_1_method_79_code (7 : Nat) (Option.some Jvm.ClassFile.FieldType.boolean)) ∈ lw_all := lw_g (lw_at lw_m6 84 rfl) rfl
theorem q1442 : (Jvm.Cond.methodLink "LettersOnStrike" (411 : Nat) ({ cls := "LettersOnStrike", name := "isAnyMistaken", desc := "()Z" } : Jvm.MethodName)) ∈ lw_all := lw_g (lw_at lw_m6 85 rfl) rfl
theorem q1443 : (Jvm.Cond.privateMethod ({ cls := "LettersOnStrike", name := "isAnyMistaken", desc := "()Z" } : Jvm.MethodName)) ∈ lw_tbl := lw_at lw_m6 86 rfl
theorem q1444 : (Jvm.Cond.instanceMethod ({ cls := "LettersOnStrike", name := "isAnyMistaken", desc := "()Z" } : Jvm.MethodName)) ∈ lw_all := lw_g (lw_at lw_m6 87 rfl) rfl
theorem q1445 : (Jvm.Cond.code ({ cls := "LettersOnStrike", name := "isAnyMistaken", desc := "()Z" } : Jvm.MethodName) prog_1_method_78_code (3 : Nat) (Option.some Jvm.ClassFile.FieldType.boolean)) ∈ lw_all := lw_g (lw_at lw_m6 88 rfl) rfl
theorem q1446 : (Jvm.Cond.methodLink "LettersOnStrike" (407 : Nat) ({ cls := "LettersOnStrike", name := "areMistaken", desc := "(LLettersOnStrike$Word;LLettersOnStrike$Word;)Z" } : Jvm.MethodName)) ∈ lw_all := lw_g (lw_at lw_m6 89 rfl) rfl
theorem q1447 : (Jvm.Cond.privateMethod ({ cls := "LettersOnStrike", name := "areMistaken", desc := "(LLettersOnStrike$Word;LLettersOnStrike$Word;)Z" } : Jvm.MethodName)) ∈ lw_tbl := lw_at lw_m6 90 rfl
theorem q1448 : (Jvm.Cond.instanceMethod ({ cls := "LettersOnStrike", name := "areMistaken", desc := "(LLettersOnStrike$Word;LLettersOnStrike$Word;)Z" } : Jvm.MethodName)) ∈ lw_all := lw_g (lw_at lw_m6 91 rfl) rfl
theorem q1449 : (Jvm.Cond.code ({ cls := "LettersOnStrike", name := "areMistaken", desc := "(LLettersOnStrike$Word;LLettersOnStrike$Word;)Z" } : Jvm.MethodName) prog_1_method_77_code (7 : Nat) (Option.some Jvm.ClassFile.FieldType.boolean)) ∈ lw_all := lw_g (lw_at lw_m6 92 rfl) rfl
theorem q1450 : (Jvm.Cond.methodLink "LettersOnStrike" (414 : Nat) ({ cls := "java/lang/Math", name := "max", desc := "(II)I" } : Jvm.MethodName)) ∈ lw_all := lw_g (lw_at lw_m6 93 rfl) rfl
theorem q1451 : (Jvm.Cond.methodLink "LettersOnStrikeLaw" (147 : Nat) ({ cls := "LettersOnStrike", name := "settlement", desc := "(II)I" } : Jvm.MethodName)) ∈ lw_all := lw_g (lw_at lw_m6 94 rfl) rfl
theorem q1452 : (Jvm.Cond.instanceMethod ({ cls := "LettersOnStrike", name := "settlement", desc := "(II)I" } : Jvm.MethodName)) ∈ lw_all := lw_g (lw_at lw_m6 95 rfl) rfl
theorem q1453 : (Jvm.Cond.selects "LettersOnStrike" ({ cls := "LettersOnStrike", name := "settlement", desc := "(II)I" } : Jvm.MethodName) ({ cls := "LettersOnStrike", name := "settlement", desc := "(II)I" } : Jvm.MethodName)) ∈ lw_all := lw_g (lw_at lw_m6 96 rfl) rfl
theorem q1454 : (Jvm.Cond.code ({ cls := "LettersOnStrike", name := "settlement", desc := "(II)I" } : Jvm.MethodName) prog_1_method_82_code (4 : Nat) (Option.some Jvm.ClassFile.FieldType.int)) ∈ lw_all := lw_g (lw_at lw_m6 97 rfl) rfl
theorem q1455 : (Jvm.Cond.methodLink "LettersOnStrike" (429 : Nat) ({ cls := "LettersOnStrike", name := "settles", desc := "(IIIII)V" } : Jvm.MethodName)) ∈ lw_all := lw_g (lw_at lw_m6 98 rfl) rfl
theorem q1456 : (Jvm.Cond.privateMethod ({ cls := "LettersOnStrike", name := "settles", desc := "(IIIII)V" } : Jvm.MethodName)) ∈ lw_tbl := lw_at lw_m6 99 rfl
theorem q1457 : (Jvm.Cond.instanceMethod ({ cls := "LettersOnStrike", name := "settles", desc := "(IIIII)V" } : Jvm.MethodName)) ∈ lw_all := lw_g (lw_at lw_m6 100 rfl) rfl
theorem q1458 : (Jvm.Cond.code ({ cls := "LettersOnStrike", name := "settles", desc := "(IIIII)V" } : Jvm.MethodName) prog_1_method_81_code (8 : Nat) (Option.none : Option Jvm.ClassFile.FieldType)) ∈ lw_all := lw_g (lw_at lw_m6 101 rfl) rfl
theorem q1459 : (Jvm.Cond.methodLink "LettersOnStrikeLaw" (151 : Nat) ({ cls := "LettersOnStrike", name := "learn", desc := "(IZ)I" } : Jvm.MethodName)) ∈ lw_all := lw_g (lw_at lw_m6 102 rfl) rfl
theorem q1460 : (Jvm.Cond.instanceMethod ({ cls := "LettersOnStrike", name := "learn", desc := "(IZ)I" } : Jvm.MethodName)) ∈ lw_all := lw_g (lw_at lw_m6 103 rfl) rfl
theorem q1461 : (Jvm.Cond.selects "LettersOnStrike" ({ cls := "LettersOnStrike", name := "learn", desc := "(IZ)I" } : Jvm.MethodName) ({ cls := "LettersOnStrike", name := "learn", desc := "(IZ)I" } : Jvm.MethodName)) ∈ lw_all := lw_g (lw_at lw_m6 104 rfl) rfl
theorem q1462 : (Jvm.Cond.code ({ cls := "LettersOnStrike", name := "learn", desc := "(IZ)I" } : Jvm.MethodName) prog_1_method_84_code (5 : Nat) (Option.some Jvm.ClassFile.FieldType.int)) ∈ lw_all := lw_g (lw_at lw_m6 105 rfl) rfl
theorem q1463 : (Jvm.Cond.methodLink "LettersOnStrike" (439 : Nat) ({ cls := "LettersOnStrike", name := "learns", desc := "(IIII)V" } : Jvm.MethodName)) ∈ lw_all := lw_g (lw_at lw_m6 106 rfl) rfl
theorem q1464 : (Jvm.Cond.privateMethod ({ cls := "LettersOnStrike", name := "learns", desc := "(IIII)V" } : Jvm.MethodName)) ∈ lw_tbl := lw_at lw_m6 107 rfl
theorem q1465 : (Jvm.Cond.instanceMethod ({ cls := "LettersOnStrike", name := "learns", desc := "(IIII)V" } : Jvm.MethodName)) ∈ lw_all := lw_g (lw_at lw_m6 108 rfl) rfl
theorem q1466 : (Jvm.Cond.code ({ cls := "LettersOnStrike", name := "learns", desc := "(IIII)V" } : Jvm.MethodName) prog_1_method_83_code (7 : Nat) (Option.none : Option Jvm.ClassFile.FieldType)) ∈ lw_all := lw_g (lw_at lw_m6 109 rfl) rfl
theorem q1467 : (Jvm.Cond.methodLink "LettersOnStrikeLaw" (156 : Nat) ({ cls := "LettersOnStrike", name := "hair", desc := "(II)I" } : Jvm.MethodName)) ∈ lw_all := lw_g (lw_at lw_m6 110 rfl) rfl
theorem q1468 : (Jvm.Cond.instanceMethod ({ cls := "LettersOnStrike", name := "hair", desc := "(II)I" } : Jvm.MethodName)) ∈ lw_all := lw_g (lw_at lw_m6 111 rfl) rfl
theorem q1469 : (Jvm.Cond.selects "LettersOnStrike" ({ cls := "LettersOnStrike", name := "hair", desc := "(II)I" } : Jvm.MethodName) ({ cls := "LettersOnStrike", name := "hair", desc := "(II)I" } : Jvm.MethodName)) ∈ lw_all := lw_g (lw_at lw_m6 112 rfl) rfl
theorem q1470 : (Jvm.Cond.code ({ cls := "LettersOnStrike", name := "hair", desc := "(II)I" } : Jvm.MethodName) prog_1_method_86_code (5 : Nat) (Option.some Jvm.ClassFile.FieldType.int)) ∈ lw_all := lw_g (lw_at lw_m6 113 rfl) rfl
theorem q1471 : (Jvm.Cond.methodLink "LettersOnStrike" (443 : Nat) ({ cls := "LettersOnStrike", name := "isHair", desc := "(LLettersOnStrike$Word;LLettersOnStrike$Word;)Z" } : Jvm.MethodName)) ∈ lw_all := lw_g (lw_at lw_m6 114 rfl) rfl
theorem q1472 : (Jvm.Cond.privateMethod ({ cls := "LettersOnStrike", name := "isHair", desc := "(LLettersOnStrike$Word;LLettersOnStrike$Word;)Z" } : Jvm.MethodName)) ∈ lw_tbl := lw_at lw_m6 115 rfl
theorem q1473 : (Jvm.Cond.instanceMethod ({ cls := "LettersOnStrike", name := "isHair", desc := "(LLettersOnStrike$Word;LLettersOnStrike$Word;)Z" } : Jvm.MethodName)) ∈ lw_all := lw_g (lw_at lw_m6 116 rfl) rfl
theorem q1474 : (Jvm.Cond.code ({ cls := "LettersOnStrike", name := "isHair", desc := "(LLettersOnStrike$Word;LLettersOnStrike$Word;)Z" } : Jvm.MethodName) prog_1_method_85_code (5 : Nat) (Option.some Jvm.ClassFile.FieldType.boolean)) ∈ lw_all := lw_g (lw_at lw_m6 117 rfl) rfl
theorem q1475 : (Jvm.Cond.methodLink "LettersOnStrikeLaw" (160 : Nat) ({ cls := "LettersOnStrike", name := "printed", desc := "(IIZ)I" } : Jvm.MethodName)) ∈ lw_all := lw_g (lw_at lw_m6 118 rfl) rfl
theorem q1476 : (Jvm.Cond.instanceMethod ({ cls := "LettersOnStrike", name := "printed", desc := "(IIZ)I" } : Jvm.MethodName)) ∈ lw_all := lw_g (lw_at lw_m6 119 rfl) rfl
theorem q1477 : (Jvm.Cond.selects "LettersOnStrike" ({ cls := "LettersOnStrike", name := "printed", desc := "(IIZ)I" } : Jvm.MethodName) ({ cls := "LettersOnStrike", name := "printed", desc := "(IIZ)I" } : Jvm.MethodName)) ∈ lw_all := lw_g (lw_at lw_m6 120 rfl) rfl
theorem q1478 : (Jvm.Cond.code ({ cls := "LettersOnStrike", name := "printed", desc := "(IIZ)I" } : Jvm.MethodName) prog_1_method_87_code (5 : Nat) (Option.some Jvm.ClassFile.FieldType.int)) ∈ lw_all := lw_g (lw_at lw_m6 121 rfl) rfl
theorem q1479 : (Jvm.Cond.methodLink "LettersOnStrikeLaw" (164 : Nat) ({ cls := "LettersOnStrike", name := "spells", desc := "(II)I" } : Jvm.MethodName)) ∈ lw_all := lw_g (lw_at lw_m6 122 rfl) rfl
theorem q1480 : (Jvm.Cond.instanceMethod ({ cls := "LettersOnStrike", name := "spells", desc := "(II)I" } : Jvm.MethodName)) ∈ lw_all := lw_g (lw_at lw_m6 123 rfl) rfl
theorem q1481 : (Jvm.Cond.selects "LettersOnStrike" ({ cls := "LettersOnStrike", name := "spells", desc := "(II)I" } : Jvm.MethodName) ({ cls := "LettersOnStrike", name := "spells", desc := "(II)I" } : Jvm.MethodName)) ∈ lw_all := lw_g (lw_at lw_m6 124 rfl) rfl
theorem q1482 : (Jvm.Cond.code ({ cls := "LettersOnStrike", name := "spells", desc := "(II)I" } : Jvm.MethodName) prog_1_method_90_code (7 : Nat) (Option.some Jvm.ClassFile.FieldType.int)) ∈ lw_all := lw_g (lw_at lw_m6 125 rfl) rfl
theorem q1483 : (Jvm.Cond.methodLink "LettersOnStrike" (452 : Nat) ({ cls := "LettersOnStrike", name := "goes", desc := "(III)Z" } : Jvm.MethodName)) ∈ lw_all := lw_g (lw_at lw_m6 126 rfl) rfl
theorem q1484 : (Jvm.Cond.privateMethod ({ cls := "LettersOnStrike", name := "goes", desc := "(III)Z" } : Jvm.MethodName)) ∈ lw_tbl := lw_at lw_m6 127 rfl
theorem q1485 : (Jvm.Cond.instanceMethod ({ cls := "LettersOnStrike", name := "goes", desc := "(III)Z" } : Jvm.MethodName)) ∈ lw_all := lw_g (lw_at lw_m6 128 rfl) rfl
theorem q1486 : (Jvm.Cond.code ({ cls := "LettersOnStrike", name := "goes", desc := "(III)Z" } : Jvm.MethodName) prog_1_method_89_code (9 : Nat) (Option.some Jvm.ClassFile.FieldType.boolean)) ∈ lw_all := lw_g (lw_at lw_m6 129 rfl) rfl
theorem q1487 : (Jvm.Cond.methodLink "LettersOnStrike" (449 : Nat) ({ cls := "LettersOnStrike", name := "thereOn", desc := "(I)I" } : Jvm.MethodName)) ∈ lw_all := lw_g (lw_at lw_m6 130 rfl) rfl
theorem q1488 : (Jvm.Cond.privateMethod ({ cls := "LettersOnStrike", name := "thereOn", desc := "(I)I" } : Jvm.MethodName)) ∈ lw_tbl := lw_at lw_m6 131 rfl
theorem q1489 : (Jvm.Cond.instanceMethod ({ cls := "LettersOnStrike", name := "thereOn", desc := "(I)I" } : Jvm.MethodName)) ∈ lw_all := lw_g (lw_at lw_m6 132 rfl) rfl
theorem q1490 : (Jvm.Cond.code ({ cls := "LettersOnStrike", name := "thereOn", desc := "(I)I" } : Jvm.MethodName) prog_1_method_88_code (4 : Nat) (Option.some Jvm.ClassFile.FieldType.int)) ∈ lw_all := lw_g (lw_at lw_m6 133 rfl) rfl
theorem q1491 : (Jvm.Cond.methodLink "LettersOnStrikeLaw" (168 : Nat) ({ cls := "LettersOnStrike", name := "signed", desc := "(II)I" } : Jvm.MethodName)) ∈ lw_all := lw_g (lw_at lw_m6 134 rfl) rfl
theorem q1492 : (Jvm.Cond.instanceMethod ({ cls := "LettersOnStrike", name := "signed", desc := "(II)I" } : Jvm.MethodName)) ∈ lw_all := lw_g (lw_at lw_m6 135 rfl) rfl
theorem q1493 : (Jvm.Cond.selects "LettersOnStrike" ({ cls := "LettersOnStrike", name := "signed", desc := "(II)I" } : Jvm.MethodName) ({ cls := "LettersOnStrike", name := "signed", desc := "(II)I" } : Jvm.MethodName)) ∈ lw_all := lw_g (lw_at lw_m6 136 rfl) rfl
theorem q1494 : (Jvm.Cond.code ({ cls := "LettersOnStrike", name := "signed", desc := "(II)I" } : Jvm.MethodName) prog_1_method_94_code (4 : Nat) (Option.some Jvm.ClassFile.FieldType.int)) ∈ lw_all := lw_g (lw_at lw_m6 137 rfl) rfl
theorem q1495 : (Jvm.Cond.methodLink "LettersOnStrike" (461 : Nat) ({ cls := "LettersOnStrike", name := "binds", desc := "(III)Z" } : Jvm.MethodName)) ∈ lw_all := lw_g (lw_at lw_m6 138 rfl) rfl
theorem q1496 : (Jvm.Cond.privateMethod ({ cls := "LettersOnStrike", name := "binds", desc := "(III)Z" } : Jvm.MethodName)) ∈ lw_tbl := lw_at lw_m6 139 rfl
theorem q1497 : (Jvm.Cond.instanceMethod ({ cls := "LettersOnStrike", name := "binds", desc := "(III)Z" } : Jvm.MethodName)) ∈ lw_all := lw_g (lw_at lw_m6 140 rfl) rfl
theorem q1498 : (Jvm.Cond.code ({ cls := "LettersOnStrike", name := "binds", desc := "(III)Z" } : Jvm.MethodName) prog_1_method_92_code (5 : Nat) (Option.some Jvm.ClassFile.FieldType.boolean)) ∈ lw_all := lw_g (lw_at lw_m6 141 rfl) rfl
theorem q1499 : (Jvm.Cond.methodLink "LettersOnStrike" (455 : Nat) ({ cls := "LettersOnStrike", name := "brokenBy", desc := "(II)I" } : Jvm.MethodName)) ∈ lw_all := lw_g (lw_at lw_m6 142 rfl) rfl
theorem q1500 : (Jvm.Cond.privateMethod ({ cls := "LettersOnStrike", name := "brokenBy", desc := "(II)I" } : Jvm.MethodName)) ∈ lw_tbl := lw_at lw_m6 143 rfl
theorem q1501 : (Jvm.Cond.instanceMethod ({ cls := "LettersOnStrike", name := "brokenBy", desc := "(II)I" } : Jvm.MethodName)) ∈ lw_all := lw_g (lw_at lw_m6 144 rfl) rfl
theorem q1502 : (Jvm.Cond.code ({ cls := "LettersOnStrike", name := "brokenBy", desc := "(II)I" } : Jvm.MethodName) prog_1_method_91_code (5 : Nat) (Option.some Jvm.ClassFile.FieldType.int)) ∈ lw_all := lw_g (lw_at lw_m6 145 rfl) rfl
theorem q1503 : (Jvm.Cond.methodLink "LettersOnStrike" (463 : Nat) ({ cls := "LettersOnStrike", name := "loopholeOf", desc := "(I)I" } : Jvm.MethodName)) ∈ lw_all := lw_g (lw_at lw_m6 146 rfl) rfl
theorem q1504 : (Jvm.Cond.privateMethod ({ cls := "LettersOnStrike", name := "loopholeOf", desc := "(I)I" } : Jvm.MethodName)) ∈ lw_tbl := lw_at lw_m6 147 rfl
theorem q1505 : (Jvm.Cond.instanceMethod ({ cls := "LettersOnStrike", name := "loopholeOf", desc := "(I)I" } : Jvm.MethodName)) ∈ lw_all := lw_g (lw_at lw_m6 148 rfl) rfl
theorem q1506 : (Jvm.Cond.code ({ cls := "LettersOnStrike", name := "loopholeOf", desc := "(I)I" } : Jvm.MethodName) prog_1_method_93_code (4 : Nat) (Option.some Jvm.ClassFile.FieldType.int)) ∈ lw_all := lw_g (lw_at lw_m6 149 rfl) rfl
theorem q1507 : (Jvm.Cond.methodLink "LettersOnStrikeLaw" (172 : Nat) ({ cls := "LettersOnStrike", name := "image", desc := "()I" } : Jvm.MethodName)) ∈ lw_all := lw_g (lw_at lw_m6 150 rfl) rfl
theorem q1508 : (Jvm.Cond.instanceMethod ({ cls := "LettersOnStrike", name := "image", desc := "()I" } : Jvm.MethodName)) ∈ lw_all := lw_g (lw_at lw_m6 151 rfl) rfl
theorem q1509 : (Jvm.Cond.selects "LettersOnStrike" ({ cls := "LettersOnStrike", name := "image", desc := "()I" } : Jvm.MethodName) ({ cls := "LettersOnStrike", name := "image", desc := "()I" } : Jvm.MethodName)) ∈ lw_all := lw_g (lw_at lw_m6 152 rfl) rfl
theorem q1510 : (Jvm.Cond.code ({ cls := "LettersOnStrike", name := "image", desc := "()I" } : Jvm.MethodName) prog_1_method_95_code (1 : Nat) (Option.some Jvm.ClassFile.FieldType.int)) ∈ lw_all := lw_g (lw_at lw_m6 153 rfl) rfl
theorem q1511 : (Jvm.Cond.methodLink "LettersOnStrikeLaw" (176 : Nat) ({ cls := "LettersOnStrike", name := "back", desc := "()I" } : Jvm.MethodName)) ∈ lw_all := lw_g (lw_at lw_m6 154 rfl) rfl
theorem q1512 : (Jvm.Cond.instanceMethod ({ cls := "LettersOnStrike", name := "back", desc := "()I" } : Jvm.MethodName)) ∈ lw_all := lw_g (lw_at lw_m6 155 rfl) rfl
theorem q1513 : (Jvm.Cond.selects "LettersOnStrike" ({ cls := "LettersOnStrike", name := "back", desc := "()I" } : Jvm.MethodName) ({ cls := "LettersOnStrike", name := "back", desc := "()I" } : Jvm.MethodName)) ∈ lw_all := lw_g (lw_at lw_m6 156 rfl) rfl
theorem q1514 : (Jvm.Cond.code ({ cls := "LettersOnStrike", name := "back", desc := "()I" } : Jvm.MethodName) prog_1_method_96_code (1 : Nat) (Option.some Jvm.ClassFile.FieldType.int)) ∈ lw_all := lw_g (lw_at lw_m6 157 rfl) rfl
theorem q1515 : (Jvm.Cond.methodLink "LettersOnStrikeLaw" (180 : Nat) ({ cls := "LettersOnStrike", name := "about", desc := "(I)I" } : Jvm.MethodName)) ∈ lw_all := lw_g (lw_at lw_m6 158 rfl) rfl
theorem q1516 : (Jvm.Cond.instanceMethod ({ cls := "LettersOnStrike", name := "about", desc := "(I)I" } : Jvm.MethodName)) ∈ lw_all := lw_g (lw_at lw_m6 159 rfl) rfl
theorem q1517 : (Jvm.Cond.selects "LettersOnStrike" ({ cls := "LettersOnStrike", name := "about", desc := "(I)I" } : Jvm.MethodName) ({ cls := "LettersOnStrike", name := "about", desc := "(I)I" } : Jvm.MethodName)) ∈ lw_all := lw_g (lw_at lw_m6 160 rfl) rfl
theorem q1518 : (Jvm.Cond.code ({ cls := "LettersOnStrike", name := "about", desc := "(I)I" } : Jvm.MethodName) prog_1_method_97_code (2 : Nat) (Option.some Jvm.ClassFile.FieldType.int)) ∈ lw_all := lw_g (lw_at lw_m6 161 rfl) rfl
theorem q1519 : (Jvm.Cond.classLink "LettersOnStrikeLaw" (10 : Nat) "LettersOnStrikeModel") ∈ lw_all := lw_g (lw_at lw_m6 162 rfl) rfl
theorem q1520 : (Jvm.Cond.instantiable "LettersOnStrikeModel" (40 : Nat)) ∈ lw_all := lw_g (lw_at lw_m6 163 rfl) rfl
theorem q1521 : (Jvm.Cond.methodLink "LettersOnStrikeLaw" (12 : Nat) ({ cls := "LettersOnStrikeModel", name := "<init>", desc := "()V" } : Jvm.MethodName)) ∈ lw_all := lw_g (lw_at lw_m6 164 rfl) rfl
theorem q1522 : (Jvm.Cond.instanceMethod ({ cls := "LettersOnStrikeModel", name := "<init>", desc := "()V" } : Jvm.MethodName)) ∈ lw_all := lw_g (lw_at lw_m6 165 rfl) rfl
theorem q1523 : (Jvm.Cond.code ({ cls := "LettersOnStrikeModel", name := "<init>", desc := "()V" } : Jvm.MethodName) prog_18_method_1_code (2 : Nat) (Option.none : Option Jvm.ClassFile.FieldType)) ∈ lw_all := lw_g (lw_at lw_m6 166 rfl) rfl
theorem q1524 : (Jvm.Cond.methodLink "LettersOnStrikeModel" (1 : Nat) ({ cls := "java/lang/Object", name := "<init>", desc := "()V" } : Jvm.MethodName)) ∈ lw_all := lw_g (lw_at lw_m6 167 rfl) rfl
theorem q1525 : (Jvm.Cond.methodLink "LettersOnStrikeModel" (73 : Nat) ({ cls := "LettersOnStrikeModel", name := "copy", desc := "([I[I)V" } : Jvm.MethodName)) ∈ lw_all := lw_g (lw_at lw_m6 168 rfl) rfl
theorem q1526 : (Jvm.Cond.static ({ cls := "LettersOnStrikeModel", name := "copy", desc := "([I[I)V" } : Jvm.MethodName)) ∈ lw_all := lw_g (lw_at lw_m6 169 rfl) rfl
theorem q1527 : (Jvm.Cond.code ({ cls := "LettersOnStrikeModel", name := "copy", desc := "([I[I)V" } : Jvm.MethodName) prog_18_method_2_code (3 : Nat) (Option.none : Option Jvm.ClassFile.FieldType)) ∈ lw_all := lw_g (lw_at lw_m6 170 rfl) rfl
theorem q1528 : (Jvm.Cond.fieldLink "LettersOnStrikeModel" (7 : Nat) "LettersOnStrikeModel" "a" "[I") ∈ lw_all := lw_g (lw_at lw_m6 171 rfl) rfl
theorem q1529 : (Jvm.Cond.fieldLink "LettersOnStrikeModel" (13 : Nat) "LettersOnStrikeModel" "image" "[I") ∈ lw_all := lw_g (lw_at lw_m6 172 rfl) rfl
theorem q1530 : (Jvm.Cond.fieldLink "LettersOnStrikeModel" (16 : Nat) "LettersOnStrikeModel" "texts" "[I") ∈ lw_all := lw_g (lw_at lw_m6 173 rfl) rfl
theorem q1531 : (Jvm.Cond.fieldLink "LettersOnStrikeModel" (19 : Nat) "LettersOnStrikeModel" "told" "[I") ∈ lw_all := lw_g (lw_at lw_m6 174 rfl) rfl
theorem q1532 : (Jvm.Cond.fieldLink "LettersOnStrikeModel" (101 : Nat) "LettersOnStrikeModel" "many" "I") ∈ lw_all := lw_g (lw_at lw_m6 175 rfl) rfl
theorem q1533 : (Jvm.Cond.fieldLink "LettersOnStrikeModel" (22 : Nat) "LettersOnStrikeModel" "senses" "[I") ∈ lw_all := lw_g (lw_at lw_m6 176 rfl) rfl
theorem q1534 : (Jvm.Cond.fieldLink "LettersOnStrikeModel" (114 : Nat) "LettersOnStrikeModel" "senseCount" "I") ∈ lw_all := lw_g (lw_at lw_m6 177 rfl) rfl
theorem q1535 : (Jvm.Cond.fieldLink "LettersOnStrikeModel" (25 : Nat) "LettersOnStrikeModel" "tape" "[I") ∈ lw_all := lw_g (lw_at lw_m6 178 rfl) rfl
theorem q1536 : (Jvm.Cond.fieldLink "LettersOnStrikeModel" (122 : Nat) "LettersOnStrikeModel" "taped" "I") ∈ lw_all := lw_g (lw_at lw_m6 179 rfl) rfl
theorem q1537 : (Jvm.Cond.fieldLink "LettersOnStrikeModel" (28 : Nat) "LettersOnStrikeModel" "fault" "I") ∈ lw_all := lw_g (lw_at lw_m6 180 rfl) rfl
theorem q1538 : (Jvm.Cond.fieldLink "LettersOnStrikeModel" (32 : Nat) "LettersOnStrikeModel" "faultPlace" "I") ∈ lw_all := lw_g (lw_at lw_m6 181 rfl) rfl
theorem q1539 : (Jvm.Cond.fieldLink "LettersOnStrikeModel" (129 : Nat) "LettersOnStrikeModel" "at" "I") ∈ lw_all := lw_g (lw_at lw_m6 182 rfl) rfl
theorem q1540 : (Jvm.Cond.fieldLink "LettersOnStrikeModel" (135 : Nat) "LettersOnStrikeModel" "place" "I") ∈ lw_all := lw_g (lw_at lw_m6 183 rfl) rfl
theorem q1541 : (Jvm.Cond.fieldLink "LettersOnStrikeModel" (138 : Nat) "LettersOnStrikeModel" "token" "I") ∈ lw_all := lw_g (lw_at lw_m6 184 rfl) rfl
theorem q1542 : (Jvm.Cond.fieldLink "LettersOnStrikeModel" (144 : Nat) "LettersOnStrikeModel" "number" "I") ∈ lw_all := lw_g (lw_at lw_m6 185 rfl) rfl
theorem q1543 : (Jvm.Cond.fieldLink "LettersOnStrikeModel" (151 : Nat) "LettersOnStrikeModel" "word" "J") ∈ lw_all := lw_g (lw_at lw_m6 186 rfl) rfl
theorem q1544 : (Jvm.Cond.fieldLink "LettersOnStrikeModel" (163 : Nat) "LettersOnStrikeModel" "text0" "I") ∈ lw_all := lw_g (lw_at lw_m6 187 rfl) rfl
theorem q1545 : (Jvm.Cond.fieldLink "LettersOnStrikeModel" (166 : Nat) "LettersOnStrikeModel" "written" "I") ∈ lw_all := lw_g (lw_at lw_m6 188 rfl) rfl
theorem q1546 : (Jvm.Cond.fieldLink "LettersOnStrikeModel" (35 : Nat) "LettersOnStrikeModel" "pile" "[I") ∈ lw_all := lw_g (lw_at lw_m6 189 rfl) rfl
theorem q1547 : (Jvm.Cond.fieldLink "LettersOnStrikeModel" (169 : Nat) "LettersOnStrikeModel" "piled" "I") ∈ lw_all := lw_g (lw_at lw_m6 190 rfl) rfl
theorem q1548 : (Jvm.Cond.fieldLink "LettersOnStrikeModel" (176 : Nat) "LettersOnStrikeModel" "opens" "I") ∈ lw_all := lw_g (lw_at lw_m6 191 rfl) rfl
theorem q1549 : (Jvm.Cond.fieldLink "LettersOnStrikeModel" (172 : Nat) "LettersOnStrikeModel" "isWhole" "Z") ∈ lw_all := lw_g (lw_at lw_m6 192 rfl) rfl
theorem q1550 : (Jvm.Cond.fieldLink "LettersOnStrikeModel" (194 : Nat) "LettersOnStrikeModel" "sort0" "I") ∈ lw_all := lw_g (lw_at lw_m6 193 rfl) rfl
theorem q1551 : (Jvm.Cond.fieldLink "LettersOnStrikeModel" (286 : Nat) "LettersOnStrikeModel" "once" "I") ∈ lw_all := lw_g (lw_at lw_m6 194 rfl) rfl
theorem q1552 : (Jvm.Cond.fieldLink "LettersOnStrikeModel" (38 : Nat) "LettersOnStrikeModel" "named" "[I") ∈ lw_all := lw_g (lw_at lw_m6 195 rfl) rfl
theorem q1553 : (Jvm.Cond.fieldLink "LettersOnStrikeModel" (41 : Nat) "LettersOnStrikeModel" "values" "[J") ∈ lw_all := lw_g (lw_at lw_m6 196 rfl) rfl
theorem q1554 : (Jvm.Cond.fieldLink "LettersOnStrikeModel" (45 : Nat) "LettersOnStrikeModel" "truth" "[Z") ∈ lw_all := lw_g (lw_at lw_m6 197 rfl) rfl
theorem q1555 : (Jvm.Cond.fieldLink "LettersOnStrikeModel" (49 : Nat) "LettersOnStrikeModel" "row" "[I") ∈ lw_all := lw_g (lw_at lw_m6 198 rfl) rfl
theorem q1556 : (Jvm.Cond.fieldLink "LettersOnStrikeModel" (52 : Nat) "LettersOnStrikeModel" "member" "[I") ∈ lw_all := lw_g (lw_at lw_m6 199 rfl) rfl
theorem q1557 : (Jvm.Cond.fieldLink "LettersOnStrikeModel" (55 : Nat) "LettersOnStrikeModel" "mute" "[Z") ∈ lw_all := lw_g (lw_at lw_m6 200 rfl) rfl
theorem q1558 : (Jvm.Cond.fieldLink "LettersOnStrikeModel" (58 : Nat) "LettersOnStrikeModel" "wins" "[Z") ∈ lw_all := lw_g (lw_at lw_m6 201 rfl) rfl
theorem q1559 : (Jvm.Cond.fieldLink "LettersOnStrikeModel" (440 : Nat) "LettersOnStrikeModel" "members" "I") ∈ lw_all := lw_g (lw_at lw_m6 202 rfl) rfl
theorem q1560 : (Jvm.Cond.fieldLink "LettersOnStrikeModel" (61 : Nat) "LettersOnStrikeModel" "share" "[I") ∈ lw_all := lw_g (lw_at lw_m6 203 rfl) rfl
theorem q1561 : (Jvm.Cond.fieldLink "LettersOnStrikeModel" (64 : Nat) "LettersOnStrikeModel" "worths" "[I") ∈ lw_all := lw_g (lw_at lw_m6 204 rfl) rfl
theorem q1562 : (Jvm.Cond.fieldLink "LettersOnStrikeModel" (67 : Nat) "LettersOnStrikeModel" "signOf" "[I") ∈ lw_all := lw_g (lw_at lw_m6 205 rfl) rfl
theorem q1563 : (Jvm.Cond.fieldLink "LettersOnStrikeModel" (70 : Nat) "LettersOnStrikeModel" "best" "[I") ∈ lw_all := lw_g (lw_at lw_m6 206 rfl) rfl
theorem q1564 : (Jvm.Cond.fieldLink "LettersOnStrikeModel" (481 : Nat) "LettersOnStrikeModel" "bestLong" "I") ∈ lw_all := lw_g (lw_at lw_m6 207 rfl) rfl
theorem q1565 : (Jvm.Cond.fieldLink "LettersOnStrikeModel" (484 : Nat) "LettersOnStrikeModel" "bestMany" "I") ∈ lw_all := lw_g (lw_at lw_m6 208 rfl) rfl
theorem q1566 : (Jvm.Cond.laysFinal "LettersOnStrikeModel" "LettersOnStrikeModel" "a" "[I") ∈ lw_all := lw_g (lw_at lw_m6 209 rfl) rfl
theorem q1567 : (Jvm.Cond.soleField "LettersOnStrikeModel" "a") ∈ lw_all := lw_g (lw_at lw_m6 210 rfl) rfl
theorem q1568 : (Jvm.Cond.laysFinal "LettersOnStrikeModel" "LettersOnStrikeModel" "image" "[I") ∈ lw_all := lw_g (lw_at lw_m6 211 rfl) rfl
theorem q1569 : (Jvm.Cond.soleField "LettersOnStrikeModel" "image") ∈ lw_all := lw_g (lw_at lw_m6 212 rfl) rfl
theorem q1570 : (Jvm.Cond.laysFinal "LettersOnStrikeModel" "LettersOnStrikeModel" "texts" "[I") ∈ lw_all := lw_g (lw_at lw_m6 213 rfl) rfl
theorem q1571 : (Jvm.Cond.soleField "LettersOnStrikeModel" "texts") ∈ lw_all := lw_g (lw_at lw_m6 214 rfl) rfl
theorem q1572 : (Jvm.Cond.laysFinal "LettersOnStrikeModel" "LettersOnStrikeModel" "told" "[I") ∈ lw_all := lw_g (lw_at lw_m6 215 rfl) rfl
theorem q1573 : (Jvm.Cond.soleField "LettersOnStrikeModel" "told") ∈ lw_all := lw_g (lw_at lw_m6 216 rfl) rfl
theorem q1574 : (Jvm.Cond.lays "LettersOnStrikeModel" "LettersOnStrikeModel" "many" "I") ∈ lw_all := lw_g (lw_at lw_m6 217 rfl) rfl
theorem q1575 : (Jvm.Cond.soleField "LettersOnStrikeModel" "many") ∈ lw_all := lw_g (lw_at lw_m6 218 rfl) rfl
theorem q1576 : (Jvm.Cond.laysFinal "LettersOnStrikeModel" "LettersOnStrikeModel" "senses" "[I") ∈ lw_all := lw_g (lw_at lw_m6 219 rfl) rfl
theorem q1577 : (Jvm.Cond.soleField "LettersOnStrikeModel" "senses") ∈ lw_all := lw_g (lw_at lw_m6 220 rfl) rfl
theorem q1578 : (Jvm.Cond.lays "LettersOnStrikeModel" "LettersOnStrikeModel" "senseCount" "I") ∈ lw_all := lw_g (lw_at lw_m6 221 rfl) rfl
theorem q1579 : (Jvm.Cond.soleField "LettersOnStrikeModel" "senseCount") ∈ lw_all := lw_g (lw_at lw_m6 222 rfl) rfl
theorem q1580 : (Jvm.Cond.laysFinal "LettersOnStrikeModel" "LettersOnStrikeModel" "tape" "[I") ∈ lw_all := lw_g (lw_at lw_m6 223 rfl) rfl
theorem q1581 : (Jvm.Cond.soleField "LettersOnStrikeModel" "tape") ∈ lw_all := lw_g (lw_at lw_m6 224 rfl) rfl
theorem q1582 : (Jvm.Cond.lays "LettersOnStrikeModel" "LettersOnStrikeModel" "taped" "I") ∈ lw_all := lw_g (lw_at lw_m6 225 rfl) rfl
theorem q1583 : (Jvm.Cond.soleField "LettersOnStrikeModel" "taped") ∈ lw_all := lw_g (lw_at lw_m6 226 rfl) rfl
theorem q1584 : (Jvm.Cond.lays "LettersOnStrikeModel" "LettersOnStrikeModel" "fault" "I") ∈ lw_all := lw_g (lw_at lw_m6 227 rfl) rfl
theorem q1585 : (Jvm.Cond.soleField "LettersOnStrikeModel" "fault") ∈ lw_all := lw_g (lw_at lw_m6 228 rfl) rfl
theorem q1586 : (Jvm.Cond.lays "LettersOnStrikeModel" "LettersOnStrikeModel" "faultPlace" "I") ∈ lw_all := lw_g (lw_at lw_m6 229 rfl) rfl
theorem q1587 : (Jvm.Cond.soleField "LettersOnStrikeModel" "faultPlace") ∈ lw_all := lw_g (lw_at lw_m6 230 rfl) rfl
theorem q1588 : (Jvm.Cond.lays "LettersOnStrikeModel" "LettersOnStrikeModel" "at" "I") ∈ lw_all := lw_g (lw_at lw_m6 231 rfl) rfl
theorem q1589 : (Jvm.Cond.soleField "LettersOnStrikeModel" "at") ∈ lw_all := lw_g (lw_at lw_m6 232 rfl) rfl
theorem q1590 : (Jvm.Cond.lays "LettersOnStrikeModel" "LettersOnStrikeModel" "place" "I") ∈ lw_all := lw_g (lw_at lw_m6 233 rfl) rfl
theorem q1591 : (Jvm.Cond.soleField "LettersOnStrikeModel" "place") ∈ lw_all := lw_g (lw_at lw_m6 234 rfl) rfl
theorem q1592 : (Jvm.Cond.lays "LettersOnStrikeModel" "LettersOnStrikeModel" "token" "I") ∈ lw_all := lw_g (lw_at lw_m6 235 rfl) rfl
theorem q1593 : (Jvm.Cond.soleField "LettersOnStrikeModel" "token") ∈ lw_all := lw_g (lw_at lw_m6 236 rfl) rfl
theorem q1594 : (Jvm.Cond.lays "LettersOnStrikeModel" "LettersOnStrikeModel" "number" "I") ∈ lw_all := lw_g (lw_at lw_m6 237 rfl) rfl
theorem q1595 : (Jvm.Cond.soleField "LettersOnStrikeModel" "number") ∈ lw_all := lw_g (lw_at lw_m6 238 rfl) rfl
theorem q1596 : (Jvm.Cond.lays "LettersOnStrikeModel" "LettersOnStrikeModel" "word" "J") ∈ lw_all := lw_g (lw_at lw_m6 239 rfl) rfl
theorem q1597 : (Jvm.Cond.soleField "LettersOnStrikeModel" "word") ∈ lw_all := lw_g (lw_at lw_m7 0 rfl) rfl
theorem q1598 : (Jvm.Cond.lays "LettersOnStrikeModel" "LettersOnStrikeModel" "text0" "I") ∈ lw_all := lw_g (lw_at lw_m7 1 rfl) rfl
theorem q1599 : (Jvm.Cond.soleField "LettersOnStrikeModel" "text0") ∈ lw_all := lw_g (lw_at lw_m7 2 rfl) rfl
theorem q1600 : (Jvm.Cond.lays "LettersOnStrikeModel" "LettersOnStrikeModel" "clauses" "I") ∈ lw_all := lw_g (lw_at lw_m7 3 rfl) rfl
theorem q1601 : (Jvm.Cond.soleField "LettersOnStrikeModel" "clauses") ∈ lw_all := lw_g (lw_at lw_m7 4 rfl) rfl
theorem q1602 : (Jvm.Cond.lays "LettersOnStrikeModel" "LettersOnStrikeModel" "written" "I") ∈ lw_all := lw_g (lw_at lw_m7 5 rfl) rfl
theorem q1603 : (Jvm.Cond.soleField "LettersOnStrikeModel" "written") ∈ lw_all := lw_g (lw_at lw_m7 6 rfl) rfl
theorem q1604 : (Jvm.Cond.lays "LettersOnStrikeModel" "LettersOnStrikeModel" "came" "I") ∈ lw_all := lw_g (lw_at lw_m7 7 rfl) rfl
theorem q1605 : (Jvm.Cond.soleField "LettersOnStrikeModel" "came") ∈ lw_all := lw_g (lw_at lw_m7 8 rfl) rfl
theorem q1606 : (Jvm.Cond.laysFinal "LettersOnStrikeModel" "LettersOnStrikeModel" "pile" "[I") ∈ lw_all := lw_g (lw_at lw_m7 9 rfl) rfl
theorem q1607 : (Jvm.Cond.soleField "LettersOnStrikeModel" "pile") ∈ lw_all := lw_g (lw_at lw_m7 10 rfl) rfl
theorem q1608 : (Jvm.Cond.lays "LettersOnStrikeModel" "LettersOnStrikeModel" "piled" "I") ∈ lw_all := lw_g (lw_at lw_m7 11 rfl) rfl
theorem q1609 : (Jvm.Cond.soleField "LettersOnStrikeModel" "piled") ∈ lw_all := lw_g (lw_at lw_m7 12 rfl) rfl
theorem q1610 : (Jvm.Cond.lays "LettersOnStrikeModel" "LettersOnStrikeModel" "opens" "I") ∈ lw_all := lw_g (lw_at lw_m7 13 rfl) rfl
theorem q1611 : (Jvm.Cond.soleField "LettersOnStrikeModel" "opens") ∈ lw_all := lw_g (lw_at lw_m7 14 rfl) rfl
theorem q1612 : (Jvm.Cond.lays "LettersOnStrikeModel" "LettersOnStrikeModel" "isWhole" "Z") ∈ lw_all := lw_g (lw_at lw_m7 15 rfl) rfl
theorem q1613 : (Jvm.Cond.soleField "LettersOnStrikeModel" "isWhole") ∈ lw_all := lw_g (lw_at lw_m7 16 rfl) rfl
theorem q1614 : (Jvm.Cond.lays "LettersOnStrikeModel" "LettersOnStrikeModel" "sort0" "I") ∈ lw_all := lw_g (lw_at lw_m7 17 rfl) rfl
theorem q1615 : (Jvm.Cond.soleField "LettersOnStrikeModel" "sort0") ∈ lw_all := lw_g (lw_at lw_m7 18 rfl) rfl
theorem q1616 : (Jvm.Cond.lays "LettersOnStrikeModel" "LettersOnStrikeModel" "once" "I") ∈ lw_all := lw_g (lw_at lw_m7 19 rfl) rfl
theorem q1617 : (Jvm.Cond.soleField "LettersOnStrikeModel" "once") ∈ lw_all := lw_g (lw_at lw_m7 20 rfl) rfl
theorem q1618 : (Jvm.Cond.laysFinal "LettersOnStrikeModel" "LettersOnStrikeModel" "named" "[I") ∈ lw_all := lw_g (lw_at lw_m7 21 rfl) rfl
theorem q1619 : (Jvm.Cond.soleField "LettersOnStrikeModel" "named") ∈ lw_all := lw_g (lw_at lw_m7 22 rfl) rfl
theorem q1620 : (Jvm.Cond.laysFinal "LettersOnStrikeModel" "LettersOnStrikeModel" "values" "[J") ∈ lw_all := lw_g (lw_at lw_m7 23 rfl) rfl
theorem q1621 : (Jvm.Cond.soleField "LettersOnStrikeModel" "values") ∈ lw_all := lw_g (lw_at lw_m7 24 rfl) rfl
theorem q1622 : (Jvm.Cond.laysFinal "LettersOnStrikeModel" "LettersOnStrikeModel" "truth" "[Z") ∈ lw_all := lw_g (lw_at lw_m7 25 rfl) rfl
theorem q1623 : (Jvm.Cond.soleField "LettersOnStrikeModel" "truth") ∈ lw_all := lw_g (lw_at lw_m7 26 rfl) rfl
theorem q1624 : (Jvm.Cond.laysFinal "LettersOnStrikeModel" "LettersOnStrikeModel" "row" "[I") ∈ lw_all := lw_g (lw_at lw_m7 27 rfl) rfl
theorem q1625 : (Jvm.Cond.soleField "LettersOnStrikeModel" "row") ∈ lw_all := lw_g (lw_at lw_m7 28 rfl) rfl
theorem q1626 : (Jvm.Cond.laysFinal "LettersOnStrikeModel" "LettersOnStrikeModel" "member" "[I") ∈ lw_all := lw_g (lw_at lw_m7 29 rfl) rfl
theorem q1627 : (Jvm.Cond.soleField "LettersOnStrikeModel" "member") ∈ lw_all := lw_g (lw_at lw_m7 30 rfl) rfl
theorem q1628 : (Jvm.Cond.laysFinal "LettersOnStrikeModel" "LettersOnStrikeModel" "mute" "[Z") ∈ lw_all := lw_g (lw_at lw_m7 31 rfl) rfl
theorem q1629 : (Jvm.Cond.soleField "LettersOnStrikeModel" "mute") ∈ lw_all := lw_g (lw_at lw_m7 32 rfl) rfl
theorem q1630 : (Jvm.Cond.laysFinal "LettersOnStrikeModel" "LettersOnStrikeModel" "wins" "[Z") ∈ lw_all := lw_g (lw_at lw_m7 33 rfl) rfl
theorem q1631 : (Jvm.Cond.soleField "LettersOnStrikeModel" "wins") ∈ lw_all := lw_g (lw_at lw_m7 34 rfl) rfl
theorem q1632 : (Jvm.Cond.lays "LettersOnStrikeModel" "LettersOnStrikeModel" "members" "I") ∈ lw_all := lw_g (lw_at lw_m7 35 rfl) rfl
theorem q1633 : (Jvm.Cond.soleField "LettersOnStrikeModel" "members") ∈ lw_all := lw_g (lw_at lw_m7 36 rfl) rfl
theorem q1634 : (Jvm.Cond.laysFinal "LettersOnStrikeModel" "LettersOnStrikeModel" "share" "[I") ∈ lw_all := lw_g (lw_at lw_m7 37 rfl) rfl
theorem q1635 : (Jvm.Cond.soleField "LettersOnStrikeModel" "share") ∈ lw_all := lw_g (lw_at lw_m7 38 rfl) rfl
theorem q1636 : (Jvm.Cond.laysFinal "LettersOnStrikeModel" "LettersOnStrikeModel" "worths" "[I") ∈ lw_all := lw_g (lw_at lw_m7 39 rfl) rfl
theorem q1637 : (Jvm.Cond.soleField "LettersOnStrikeModel" "worths") ∈ lw_all := lw_g (lw_at lw_m7 40 rfl) rfl
theorem q1638 : (Jvm.Cond.laysFinal "LettersOnStrikeModel" "LettersOnStrikeModel" "signOf" "[I") ∈ lw_all := lw_g (lw_at lw_m7 41 rfl) rfl
theorem q1639 : (Jvm.Cond.soleField "LettersOnStrikeModel" "signOf") ∈ lw_all := lw_g (lw_at lw_m7 42 rfl) rfl
theorem q1640 : (Jvm.Cond.laysFinal "LettersOnStrikeModel" "LettersOnStrikeModel" "best" "[I") ∈ lw_all := lw_g (lw_at lw_m7 43 rfl) rfl
theorem q1641 : (Jvm.Cond.soleField "LettersOnStrikeModel" "best") ∈ lw_all := lw_g (lw_at lw_m7 44 rfl) rfl
theorem q1642 : (Jvm.Cond.lays "LettersOnStrikeModel" "LettersOnStrikeModel" "bestLong" "I") ∈ lw_all := lw_g (lw_at lw_m7 45 rfl) rfl
theorem q1643 : (Jvm.Cond.soleField "LettersOnStrikeModel" "bestLong") ∈ lw_all := lw_g (lw_at lw_m7 46 rfl) rfl
theorem q1644 : (Jvm.Cond.lays "LettersOnStrikeModel" "LettersOnStrikeModel" "bestMany" "I") ∈ lw_all := lw_g (lw_at lw_m7 47 rfl) rfl
theorem q1645 : (Jvm.Cond.soleField "LettersOnStrikeModel" "bestMany") ∈ lw_all := lw_g (lw_at lw_m7 48 rfl) rfl
theorem q1646 : (Jvm.Cond.superclass "LettersOnStrikeModel" "java/lang/Object") ∈ lw_all := lw_g (lw_at lw_m7 49 rfl) rfl
theorem q1647 : (Jvm.Cond.arrayClass Jvm.ClassFile.FieldType.long) ∈ lw_all := lw_g (lw_at lw_m7 50 rfl) rfl
theorem q1648 : (Jvm.Cond.arrayClass Jvm.ClassFile.FieldType.boolean) ∈ lw_all := lw_g (lw_at lw_m7 51 rfl) rfl
theorem q1649 : (Jvm.Cond.methodLink "LettersOnStrikeLaw" (17 : Nat) ({ cls := "LettersOnStrikeModel", name := "tie", desc := "(II)Z" } : Jvm.MethodName)) ∈ lw_all := lw_g (lw_at lw_m7 52 rfl) rfl
theorem q1650 : (Jvm.Cond.instanceMethod ({ cls := "LettersOnStrikeModel", name := "tie", desc := "(II)Z" } : Jvm.MethodName)) ∈ lw_all := lw_g (lw_at lw_m7 53 rfl) rfl
theorem q1651 : (Jvm.Cond.selects "LettersOnStrikeModel" ({ cls := "LettersOnStrikeModel", name := "tie", desc := "(II)Z" } : Jvm.MethodName) ({ cls := "LettersOnStrikeModel", name := "tie", desc := "(II)Z" } : Jvm.MethodName)) ∈ lw_all := lw_g (lw_at lw_m7 54 rfl) rfl
theorem q1652 : (Jvm.Cond.code ({ cls := "LettersOnStrikeModel", name := "tie", desc := "(II)Z" } : Jvm.MethodName) prog_18_method_16_code (3 : Nat) (Option.some Jvm.ClassFile.FieldType.boolean)) ∈ lw_all := lw_g (lw_at lw_m7 55 rfl) rfl
theorem q1653 : (Jvm.Cond.methodLink "LettersOnStrikeModel" (97 : Nat) ({ cls := "LettersOnStrikeModel", name := "isLetter0", desc := "(I)Z" } : Jvm.MethodName)) ∈ lw_all := lw_g (lw_at lw_m7 56 rfl) rfl
theorem q1654 : (Jvm.Cond.static ({ cls := "LettersOnStrikeModel", name := "isLetter0", desc := "(I)Z" } : Jvm.MethodName)) ∈ lw_all := lw_g (lw_at lw_m7 57 rfl) rfl
theorem q1655 : (Jvm.Cond.code ({ cls := "LettersOnStrikeModel", name := "isLetter0", desc := "(I)Z" } : Jvm.MethodName) prog_18_method_6_code (1 : Nat) (Option.some Jvm.ClassFile.FieldType.boolean)) ∈ lw_all := lw_g (lw_at lw_m7 58 rfl) rfl
theorem q1656 : (Jvm.Cond.methodLink "LettersOnStrikeModel" (77 : Nat) ({ cls := "LettersOnStrikeModel", name := "isIn", desc := "(III)Z" } : Jvm.MethodName)) ∈ lw_all := lw_g (lw_at lw_m7 59 rfl) rfl
theorem q1657 : (Jvm.Cond.static ({ cls := "LettersOnStrikeModel", name := "isIn", desc := "(III)Z" } : Jvm.MethodName)) ∈ lw_all := lw_g (lw_at lw_m7 60 rfl) rfl
theorem q1658 : (Jvm.Cond.code ({ cls := "LettersOnStrikeModel", name := "isIn", desc := "(III)Z" } : Jvm.MethodName) prog_18_method_3_code (3 : Nat) (Option.some Jvm.ClassFile.FieldType.boolean)) ∈ lw_all := lw_g (lw_at lw_m7 61 rfl) rfl
theorem q1659 : (Jvm.Cond.methodLink "LettersOnStrikeModel" (82 : Nat) ({ cls := "LettersOnStrikeModel", name := "has", desc := "(II)Z" } : Jvm.MethodName)) ∈ lw_all := lw_g (lw_at lw_m7 62 rfl) rfl
theorem q1660 : (Jvm.Cond.static ({ cls := "LettersOnStrikeModel", name := "has", desc := "(II)Z" } : Jvm.MethodName)) ∈ lw_all := lw_g (lw_at lw_m7 63 rfl) rfl
theorem q1661 : (Jvm.Cond.code ({ cls := "LettersOnStrikeModel", name := "has", desc := "(II)Z" } : Jvm.MethodName) prog_18_method_4_code (2 : Nat) (Option.some Jvm.ClassFile.FieldType.boolean)) ∈ lw_all := lw_g (lw_at lw_m7 64 rfl) rfl
theorem q1662 : (Jvm.Cond.methodLink "LettersOnStrikeLaw" (22 : Nat) ({ cls := "LettersOnStrikeModel", name := "word", desc := "(III)I" } : Jvm.MethodName)) ∈ lw_all := lw_g (lw_at lw_m7 65 rfl) rfl
theorem q1663 : (Jvm.Cond.instanceMethod ({ cls := "LettersOnStrikeModel", name := "word", desc := "(III)I" } : Jvm.MethodName)) ∈ lw_all := lw_g (lw_at lw_m7 66 rfl) rfl
theorem q1664 : (Jvm.Cond.selects "LettersOnStrikeModel" ({ cls := "LettersOnStrikeModel", name := "word", desc := "(III)I" } : Jvm.MethodName) ({ cls := "LettersOnStrikeModel", name := "word", desc := "(III)I" } : Jvm.MethodName)) ∈ lw_all := lw_g (lw_at lw_m7 67 rfl) rfl
theorem q1665 : (Jvm.Cond.code ({ cls := "LettersOnStrikeModel", name := "word", desc := "(III)I" } : Jvm.MethodName) prog_18_method_20_code (4 : Nat) (Option.some Jvm.ClassFile.FieldType.int)) ∈ lw_all := lw_g (lw_at lw_m7 68 rfl) rfl
theorem q1666 : (Jvm.Cond.methodLink "LettersOnStrikeModel" (108 : Nat) ({ cls := "LettersOnStrikeModel", name := "take", desc := "(II)Z" } : Jvm.MethodName)) ∈ lw_all := lw_g (lw_at lw_m7 69 rfl) rfl
theorem q1667 : (Jvm.Cond.privateMethod ({ cls := "LettersOnStrikeModel", name := "take", desc := "(II)Z" } : Jvm.MethodName)) ∈ lw_tbl := lw_at lw_m7 70 rfl
theorem q1668 : (Jvm.Cond.instanceMethod ({ cls := "LettersOnStrikeModel", name := "take", desc := "(II)Z" } : Jvm.MethodName)) ∈ lw_all := lw_g (lw_at lw_m7 71 rfl) rfl
theorem q1669 : (Jvm.Cond.code ({ cls := "LettersOnStrikeModel", name := "take", desc := "(II)Z" } : Jvm.MethodName) prog_18_method_19_code (5 : Nat) (Option.some Jvm.ClassFile.FieldType.boolean)) ∈ lw_all := lw_g (lw_at lw_m7 72 rfl) rfl
theorem q1670 : (Jvm.Cond.methodLink "LettersOnStrikeModel" (111 : Nat) ({ cls := "LettersOnStrikeModel", name := "wordNow", desc := "(I)I" } : Jvm.MethodName)) ∈ lw_all := lw_g (lw_at lw_m7 73 rfl) rfl
theorem q1671 : (Jvm.Cond.privateMethod ({ cls := "LettersOnStrikeModel", name := "wordNow", desc := "(I)I" } : Jvm.MethodName)) ∈ lw_tbl := lw_at lw_m7 74 rfl
theorem q1672 : (Jvm.Cond.instanceMethod ({ cls := "LettersOnStrikeModel", name := "wordNow", desc := "(I)I" } : Jvm.MethodName)) ∈ lw_all := lw_g (lw_at lw_m7 75 rfl) rfl
theorem q1673 : (Jvm.Cond.code ({ cls := "LettersOnStrikeModel", name := "wordNow", desc := "(I)I" } : Jvm.MethodName) prog_18_method_18_code (4 : Nat) (Option.some Jvm.ClassFile.FieldType.int)) ∈ lw_all := lw_g (lw_at lw_m7 76 rfl) rfl
theorem q1674 : (Jvm.Cond.methodLink "LettersOnStrikeModel" (104 : Nat) ({ cls := "LettersOnStrikeModel", name := "isTold", desc := "()Z" } : Jvm.MethodName)) ∈ lw_all := lw_g (lw_at lw_m7 77 rfl) rfl
theorem q1675 : (Jvm.Cond.privateMethod ({ cls := "LettersOnStrikeModel", name := "isTold", desc := "()Z" } : Jvm.MethodName)) ∈ lw_tbl := lw_at lw_m7 78 rfl
theorem q1676 : (Jvm.Cond.instanceMethod ({ cls := "LettersOnStrikeModel", name := "isTold", desc := "()Z" } : Jvm.MethodName)) ∈ lw_all := lw_g (lw_at lw_m7 79 rfl) rfl
theorem q1677 : (Jvm.Cond.code ({ cls := "LettersOnStrikeModel", name := "isTold", desc := "()Z" } : Jvm.MethodName) prog_18_method_17_code (4 : Nat) (Option.some Jvm.ClassFile.FieldType.boolean)) ∈ lw_all := lw_g (lw_at lw_m7 80 rfl) rfl
theorem q1678 : (Jvm.Cond.methodLink "LettersOnStrikeModel" (86 : Nat) ({ cls := "LettersOnStrikeModel", name := "lengthOf", desc := "(I)I" } : Jvm.MethodName)) ∈ lw_all := lw_g (lw_at lw_m7 81 rfl) rfl
theorem q1679 : (Jvm.Cond.privateMethod ({ cls := "LettersOnStrikeModel", name := "lengthOf", desc := "(I)I" } : Jvm.MethodName)) ∈ lw_tbl := lw_at lw_m7 82 rfl
theorem q1680 : (Jvm.Cond.instanceMethod ({ cls := "LettersOnStrikeModel", name := "lengthOf", desc := "(I)I" } : Jvm.MethodName)) ∈ lw_all := lw_g (lw_at lw_m7 83 rfl) rfl
theorem q1681 : (Jvm.Cond.code ({ cls := "LettersOnStrikeModel", name := "lengthOf", desc := "(I)I" } : Jvm.MethodName) prog_18_method_12_code (2 : Nat) (Option.some Jvm.ClassFile.FieldType.int)) ∈ lw_all := lw_g (lw_at lw_m7 84 rfl) rfl
theorem q1682 : (Jvm.Cond.methodLink "LettersOnStrikeModel" (90 : Nat) ({ cls := "LettersOnStrikeModel", name := "letterOf", desc := "(II)I" } : Jvm.MethodName)) ∈ lw_all := lw_g (lw_at lw_m7 85 rfl) rfl
theorem q1683 : (Jvm.Cond.privateMethod ({ cls := "LettersOnStrikeModel", name := "letterOf", desc := "(II)I" } : Jvm.MethodName)) ∈ lw_tbl := lw_at lw_m7 86 rfl
theorem q1684 : (Jvm.Cond.instanceMethod ({ cls := "LettersOnStrikeModel", name := "letterOf", desc := "(II)I" } : Jvm.MethodName)) ∈ lw_all := lw_g (lw_at lw_m7 87 rfl) rfl
theorem q1685 : (Jvm.Cond.code ({ cls := "LettersOnStrikeModel", name := "letterOf", desc := "(II)I" } : Jvm.MethodName) prog_18_method_11_code (3 : Nat) (Option.some Jvm.ClassFile.FieldType.int)) ∈ lw_all := lw_g (lw_at lw_m7 88 rfl) rfl
theorem q1686 : (Jvm.Cond.methodLink "LettersOnStrikeLaw" (27 : Nat) ({ cls := "LettersOnStrikeModel", name := "saying", desc := "(I)I" } : Jvm.MethodName)) ∈ lw_all := lw_g (lw_at lw_m7 89 rfl) rfl
theorem q1687 : (Jvm.Cond.instanceMethod ({ cls := "LettersOnStrikeModel", name := "saying", desc := "(I)I" } : Jvm.MethodName)) ∈ lw_all := lw_g (lw_at lw_m7 90 rfl) rfl
theorem q1688 : (Jvm.Cond.selects "LettersOnStrikeModel" ({ cls := "LettersOnStrikeModel", name := "saying", desc := "(I)I" } : Jvm.MethodName) ({ cls := "LettersOnStrikeModel", name := "saying", desc := "(I)I" } : Jvm.MethodName)) ∈ lw_all := lw_g (lw_at lw_m7 91 rfl) rfl
theorem q1689 : (Jvm.Cond.code ({ cls := "LettersOnStrikeModel", name := "saying", desc := "(I)I" } : Jvm.MethodName) prog_18_method_22_code (5 : Nat) (Option.some Jvm.ClassFile.FieldType.int)) ∈ lw_all := lw_g (lw_at lw_m7 92 rfl) rfl
theorem q1690 : (Jvm.Cond.constant "LettersOnStrikeModel" (117 : Nat) (199999999 : Int32)) ∈ lw_all := lw_g (lw_at lw_m7 93 rfl) rfl
theorem q1691 : (Jvm.Cond.methodLink "LettersOnStrikeModel" (118 : Nat) ({ cls := "LettersOnStrikeModel", name := "sayNow", desc := "()I" } : Jvm.MethodName)) ∈ lw_all := lw_g (lw_at lw_m7 94 rfl) rfl
theorem q1692 : (Jvm.Cond.privateMethod ({ cls := "LettersOnStrikeModel", name := "sayNow", desc := "()I" } : Jvm.MethodName)) ∈ lw_tbl := lw_at lw_m7 95 rfl
theorem q1693 : (Jvm.Cond.instanceMethod ({ cls := "LettersOnStrikeModel", name := "sayNow", desc := "()I" } : Jvm.MethodName)) ∈ lw_all := lw_g (lw_at lw_m7 96 rfl) rfl
theorem q1694 : (Jvm.Cond.code ({ cls := "LettersOnStrikeModel", name := "sayNow", desc := "()I" } : Jvm.MethodName) prog_18_method_21_code (3 : Nat) (Option.some Jvm.ClassFile.FieldType.int)) ∈ lw_all := lw_g (lw_at lw_m7 97 rfl) rfl
theorem q1695 : (Jvm.Cond.methodLink "LettersOnStrikeLaw" (32 : Nat) ({ cls := "LettersOnStrikeModel", name := "feed", desc := "(IIIII)I" } : Jvm.MethodName)) ∈ lw_all := lw_g (lw_at lw_m7 98 rfl) rfl
theorem q1696 : (Jvm.Cond.instanceMethod ({ cls := "LettersOnStrikeModel", name := "feed", desc := "(IIIII)I" } : Jvm.MethodName)) ∈ lw_all := lw_g (lw_at lw_m7 99 rfl) rfl
theorem q1697 : (Jvm.Cond.selects "LettersOnStrikeModel" ({ cls := "LettersOnStrikeModel", name := "feed", desc := "(IIIII)I" } : Jvm.MethodName) ({ cls := "LettersOnStrikeModel", name := "feed", desc := "(IIIII)I" } : Jvm.MethodName)) ∈ lw_all := lw_g (lw_at lw_m7 100 rfl) rfl
theorem q1698 : (Jvm.Cond.code ({ cls := "LettersOnStrikeModel", name := "feed", desc := "(IIIII)I" } : Jvm.MethodName) prog_18_method_26_code (6 : Nat) (Option.some Jvm.ClassFile.FieldType.int)) ∈ lw_all := lw_g (lw_at lw_m7 101 rfl) rfl
theorem q1699 : (Jvm.Cond.methodLink "LettersOnStrikeModel" (125 : Nat) ({ cls := "LettersOnStrikeModel", name := "four", desc := "(I)V" } : Jvm.MethodName)) ∈ lw_all := lw_g (lw_at lw_m7 102 rfl) rfl
theorem q1700 : (Jvm.Cond.privateMethod ({ cls := "LettersOnStrikeModel", name := "four", desc := "(I)V" } : Jvm.MethodName)) ∈ lw_tbl := lw_at lw_m7 103 rfl
theorem q1701 : (Jvm.Cond.instanceMethod ({ cls := "LettersOnStrikeModel", name := "four", desc := "(I)V" } : Jvm.MethodName)) ∈ lw_all := lw_g (lw_at lw_m7 104 rfl) rfl
theorem q1702 : (Jvm.Cond.code ({ cls := "LettersOnStrikeModel", name := "four", desc := "(I)V" } : Jvm.MethodName) prog_18_method_25_code (3 : Nat) (Option.none : Option Jvm.ClassFile.FieldType)) ∈ lw_all := lw_g (lw_at lw_m7 105 rfl) rfl
theorem q1703 : (Jvm.Cond.methodLink "LettersOnStrikeLaw" (36 : Nat) ({ cls := "LettersOnStrikeModel", name := "end", desc := "(I)I" } : Jvm.MethodName)) ∈ lw_all := lw_g (lw_at lw_m7 106 rfl) rfl
theorem q1704 : (Jvm.Cond.instanceMethod ({ cls := "LettersOnStrikeModel", name := "end", desc := "(I)I" } : Jvm.MethodName)) ∈ lw_all := lw_g (lw_at lw_m7 107 rfl) rfl
theorem q1705 : (Jvm.Cond.selects "LettersOnStrikeModel" ({ cls := "LettersOnStrikeModel", name := "end", desc := "(I)I" } : Jvm.MethodName) ({ cls := "LettersOnStrikeModel", name := "end", desc := "(I)I" } : Jvm.MethodName)) ∈ lw_all := lw_g (lw_at lw_m7 108 rfl) rfl
theorem q1706 : (Jvm.Cond.code ({ cls := "LettersOnStrikeModel", name := "end", desc := "(I)I" } : Jvm.MethodName) prog_18_method_27_code (2 : Nat) (Option.some Jvm.ClassFile.FieldType.int)) ∈ lw_all := lw_g (lw_at lw_m7 109 rfl) rfl
theorem q1707 : (Jvm.Cond.methodLink "LettersOnStrikeLaw" (41 : Nat) ({ cls := "LettersOnStrikeModel", name := "text", desc := "()I" } : Jvm.MethodName)) ∈ lw_all := lw_g (lw_at lw_m7 110 rfl) rfl
theorem q1708 : (Jvm.Cond.instanceMethod ({ cls := "LettersOnStrikeModel", name := "text", desc := "()I" } : Jvm.MethodName)) ∈ lw_all := lw_g (lw_at lw_m7 111 rfl) rfl
theorem q1709 : (Jvm.Cond.selects "LettersOnStrikeModel" ({ cls := "LettersOnStrikeModel", name := "text", desc := "()I" } : Jvm.MethodName) ({ cls := "LettersOnStrikeModel", name := "text", desc := "()I" } : Jvm.MethodName)) ∈ lw_all := lw_g (lw_at lw_m7 112 rfl) rfl
theorem q1710 : (Jvm.Cond.code ({ cls := "LettersOnStrikeModel", name := "text", desc := "()I" } : Jvm.MethodName) prog_18_method_66_code (1 : Nat) (Option.some Jvm.ClassFile.FieldType.int)) ∈ lw_all := lw_g (lw_at lw_m7 113 rfl) rfl
theorem q1711 : (Jvm.Cond.methodLink "LettersOnStrikeModel" (295 : Nat) ({ cls := "LettersOnStrikeModel", name := "readText", desc := "()I" } : Jvm.MethodName)) ∈ lw_all := lw_g (lw_at lw_m7 114 rfl) rfl
theorem q1712 : (Jvm.Cond.privateMethod ({ cls := "LettersOnStrikeModel", name := "readText", desc := "()I" } : Jvm.MethodName)) ∈ lw_tbl := lw_at lw_m7 115 rfl
theorem q1713 : (Jvm.Cond.instanceMethod ({ cls := "LettersOnStrikeModel", name := "readText", desc := "()I" } : Jvm.MethodName)) ∈ lw_all := lw_g (lw_at lw_m7 116 rfl) rfl
theorem q1714 : (Jvm.Cond.code ({ cls := "LettersOnStrikeModel", name := "readText", desc := "()I" } : Jvm.MethodName) prog_18_method_65_code (2 : Nat) (Option.some Jvm.ClassFile.FieldType.int)) ∈ lw_all := lw_g (lw_at lw_m7 117 rfl) rfl
theorem q1715 : (Jvm.Cond.methodLink "LettersOnStrikeModel" (197 : Nat) ({ cls := "LettersOnStrikeModel", name := "nextToken", desc := "()V" } : Jvm.MethodName)) ∈ lw_all := lw_g (lw_at lw_m7 118 rfl) rfl
theorem q1716 : (Jvm.Cond.privateMethod ({ cls := "LettersOnStrikeModel", name := "nextToken", desc := "()V" } : Jvm.MethodName)) ∈ lw_tbl := lw_at lw_m7 119 rfl
theorem q1717 : (Jvm.Cond.instanceMethod ({ cls := "LettersOnStrikeModel", name := "nextToken", desc := "()V" } : Jvm.MethodName)) ∈ lw_all := lw_g (lw_at lw_m7 120 rfl) rfl
theorem q1718 : (Jvm.Cond.code ({ cls := "LettersOnStrikeModel", name := "nextToken", desc := "()V" } : Jvm.MethodName) prog_18_method_31_code (3 : Nat) (Option.none : Option Jvm.ClassFile.FieldType)) ∈ lw_all := lw_g (lw_at lw_m7 121 rfl) rfl
theorem q1719 : (Jvm.Cond.methodLink "LettersOnStrikeModel" (132 : Nat) ({ cls := "LettersOnStrikeModel", name := "byteAt", desc := "(I)I" } : Jvm.MethodName)) ∈ lw_all := lw_g (lw_at lw_m7 122 rfl) rfl
theorem q1720 : (Jvm.Cond.privateMethod ({ cls := "LettersOnStrikeModel", name := "byteAt", desc := "(I)I" } : Jvm.MethodName)) ∈ lw_tbl := lw_at lw_m7 123 rfl
theorem q1721 : (Jvm.Cond.instanceMethod ({ cls := "LettersOnStrikeModel", name := "byteAt", desc := "(I)I" } : Jvm.MethodName)) ∈ lw_all := lw_g (lw_at lw_m7 124 rfl) rfl
theorem q1722 : (Jvm.Cond.code ({ cls := "LettersOnStrikeModel", name := "byteAt", desc := "(I)I" } : Jvm.MethodName) prog_18_method_28_code (2 : Nat) (Option.some Jvm.ClassFile.FieldType.int)) ∈ lw_all := lw_g (lw_at lw_m7 125 rfl) rfl
theorem q1723 : (Jvm.Cond.methodLink "LettersOnStrikeModel" (141 : Nat) ({ cls := "LettersOnStrikeModel", name := "isDigit", desc := "(I)Z" } : Jvm.MethodName)) ∈ lw_all := lw_g (lw_at lw_m7 126 rfl) rfl
theorem q1724 : (Jvm.Cond.static ({ cls := "LettersOnStrikeModel", name := "isDigit", desc := "(I)Z" } : Jvm.MethodName)) ∈ lw_all := lw_g (lw_at lw_m7 127 rfl) rfl
theorem q1725 : (Jvm.Cond.code ({ cls := "LettersOnStrikeModel", name := "isDigit", desc := "(I)Z" } : Jvm.MethodName) prog_18_method_30_code (1 : Nat) (Option.some Jvm.ClassFile.FieldType.boolean)) ∈ lw_all := lw_g (lw_at lw_m7 128 rfl) rfl
theorem q1726 : (Jvm.Cond.constant "LettersOnStrikeModel" (147 : Nat) (100000 : Int32)) ∈ lw_all := lw_g (lw_at lw_m7 129 rfl) rfl
theorem q1727 : (Jvm.Cond.methodLink "LettersOnStrikeModel" (148 : Nat) ({ cls := "LettersOnStrikeModel", name := "isLetter", desc := "(I)Z" } : Jvm.MethodName)) ∈ lw_all := lw_g (lw_at lw_m7 130 rfl) rfl
theorem q1728 : (Jvm.Cond.static ({ cls := "LettersOnStrikeModel", name := "isLetter", desc := "(I)Z" } : Jvm.MethodName)) ∈ lw_all := lw_g (lw_at lw_m7 131 rfl) rfl
theorem q1729 : (Jvm.Cond.code ({ cls := "LettersOnStrikeModel", name := "isLetter", desc := "(I)Z" } : Jvm.MethodName) prog_18_method_29_code (1 : Nat) (Option.some Jvm.ClassFile.FieldType.boolean)) ∈ lw_all := lw_g (lw_at lw_m7 132 rfl) rfl
theorem q1730 : (Jvm.Cond.methodLink "LettersOnStrikeModel" (292 : Nat) ({ cls := "LettersOnStrikeModel", name := "clause", desc := "()I" } : Jvm.MethodName)) ∈ lw_all := lw_g (lw_at lw_m7 133 rfl) rfl
theorem q1731 : (Jvm.Cond.privateMethod ({ cls := "LettersOnStrikeModel", name := "clause", desc := "()I" } : Jvm.MethodName)) ∈ lw_tbl := lw_at lw_m7 134 rfl
theorem q1732 : (Jvm.Cond.instanceMethod ({ cls := "LettersOnStrikeModel", name := "clause", desc := "()I" } : Jvm.MethodName)) ∈ lw_all := lw_g (lw_at lw_m7 135 rfl) rfl
theorem q1733 : (Jvm.Cond.code ({ cls := "LettersOnStrikeModel", name := "clause", desc := "()I" } : Jvm.MethodName) prog_18_method_64_code (5 : Nat) (Option.some Jvm.ClassFile.FieldType.int)) ∈ lw_all := lw_g (lw_at lw_m7 136 rfl) rfl
theorem q1734 : (Jvm.Cond.methodLink "LettersOnStrikeModel" (283 : Nat) ({ cls := "LettersOnStrikeModel", name := "sortOf", desc := "()I" } : Jvm.MethodName)) ∈ lw_all := lw_g (lw_at lw_m7 137 rfl) rfl
theorem q1735 : (Jvm.Cond.privateMethod ({ cls := "LettersOnStrikeModel", name := "sortOf", desc := "()I" } : Jvm.MethodName)) ∈ lw_tbl := lw_at lw_m7 138 rfl
theorem q1736 : (Jvm.Cond.instanceMethod ({ cls := "LettersOnStrikeModel", name := "sortOf", desc := "()I" } : Jvm.MethodName)) ∈ lw_all := lw_g (lw_at lw_m7 139 rfl) rfl
theorem q1737 : (Jvm.Cond.code ({ cls := "LettersOnStrikeModel", name := "sortOf", desc := "()I" } : Jvm.MethodName) prog_18_method_52_code (1 : Nat) (Option.some Jvm.ClassFile.FieldType.int)) ∈ lw_all := lw_g (lw_at lw_m7 140 rfl) rfl
theorem q1738 : (Jvm.Cond.methodLink "LettersOnStrikeModel" (159 : Nat) ({ cls := "LettersOnStrikeModel", name := "w5", desc := "(IIIII)J" } : Jvm.MethodName)) ∈ lw_all := lw_g (lw_at lw_m7 141 rfl) rfl
theorem q1739 : (Jvm.Cond.static ({ cls := "LettersOnStrikeModel", name := "w5", desc := "(IIIII)J" } : Jvm.MethodName)) ∈ lw_all := lw_g (lw_at lw_m7 142 rfl) rfl
theorem q1740 : (Jvm.Cond.code ({ cls := "LettersOnStrikeModel", name := "w5", desc := "(IIIII)J" } : Jvm.MethodName) prog_18_method_33_code (5 : Nat) (Option.some Jvm.ClassFile.FieldType.long)) ∈ lw_all := lw_g (lw_at lw_m7 143 rfl) rfl
theorem q1741 : (Jvm.Cond.methodLink "LettersOnStrikeModel" (155 : Nat) ({ cls := "LettersOnStrikeModel", name := "w3", desc := "(III)J" } : Jvm.MethodName)) ∈ lw_all := lw_g (lw_at lw_m7 144 rfl) rfl
theorem q1742 : (Jvm.Cond.static ({ cls := "LettersOnStrikeModel", name := "w3", desc := "(III)J" } : Jvm.MethodName)) ∈ lw_all := lw_g (lw_at lw_m7 145 rfl) rfl
theorem q1743 : (Jvm.Cond.code ({ cls := "LettersOnStrikeModel", name := "w3", desc := "(III)J" } : Jvm.MethodName) prog_18_method_32_code (3 : Nat) (Option.some Jvm.ClassFile.FieldType.long)) ∈ lw_all := lw_g (lw_at lw_m7 146 rfl) rfl
theorem q1744 : (Jvm.Cond.methodLink "LettersOnStrikeModel" (227 : Nat) ({ cls := "LettersOnStrikeModel", name := "isWord", desc := "(J)Z" } : Jvm.MethodName)) ∈ lw_all := lw_g (lw_at lw_m7 147 rfl) rfl
theorem q1745 : (Jvm.Cond.privateMethod ({ cls := "LettersOnStrikeModel", name := "isWord", desc := "(J)Z" } : Jvm.MethodName)) ∈ lw_tbl := lw_at lw_m7 148 rfl
theorem q1746 : (Jvm.Cond.instanceMethod ({ cls := "LettersOnStrikeModel", name := "isWord", desc := "(J)Z" } : Jvm.MethodName)) ∈ lw_all := lw_g (lw_at lw_m7 149 rfl) rfl
theorem q1747 : (Jvm.Cond.code ({ cls := "LettersOnStrikeModel", name := "isWord", desc := "(J)Z" } : Jvm.MethodName) prog_18_method_36_code (3 : Nat) (Option.some Jvm.ClassFile.FieldType.boolean)) ∈ lw_all := lw_g (lw_at lw_m7 150 rfl) rfl
theorem q1748 : (Jvm.Cond.methodLink "LettersOnStrikeModel" (183 : Nat) ({ cls := "LettersOnStrikeModel", name := "w4", desc := "(IIII)J" } : Jvm.MethodName)) ∈ lw_all := lw_g (lw_at lw_m7 151 rfl) rfl
theorem q1749 : (Jvm.Cond.static ({ cls := "LettersOnStrikeModel", name := "w4", desc := "(IIII)J" } : Jvm.MethodName)) ∈ lw_all := lw_g (lw_at lw_m7 152 rfl) rfl
theorem q1750 : (Jvm.Cond.code ({ cls := "LettersOnStrikeModel", name := "w4", desc := "(IIII)J" } : Jvm.MethodName) prog_18_method_34_code (4 : Nat) (Option.some Jvm.ClassFile.FieldType.long)) ∈ lw_all := lw_g (lw_at lw_m7 153 rfl) rfl
theorem q1751 : (Jvm.Cond.methodLink "LettersOnStrikeModel" (187 : Nat) ({ cls := "LettersOnStrikeModel", name := "w6", desc := "(IIIIII)J" } : Jvm.MethodName)) ∈ lw_all := lw_g (lw_at lw_m7 154 rfl) rfl
theorem q1752 : (Jvm.Cond.static ({ cls := "LettersOnStrikeModel", name := "w6", desc := "(IIIIII)J" } : Jvm.MethodName)) ∈ lw_all := lw_g (lw_at lw_m7 155 rfl) rfl
theorem q1753 : (Jvm.Cond.code ({ cls := "LettersOnStrikeModel", name := "w6", desc := "(IIIIII)J" } : Jvm.MethodName) prog_18_method_35_code (6 : Nat) (Option.some Jvm.ClassFile.FieldType.long)) ∈ lw_all := lw_g (lw_at lw_m7 156 rfl) rfl
theorem q1754 : (Jvm.Cond.methodLink "LettersOnStrikeModel" (242 : Nat) ({ cls := "LettersOnStrikeModel", name := "isAct", desc := "()I" } : Jvm.MethodName)) ∈ lw_all := lw_g (lw_at lw_m7 157 rfl) rfl
theorem q1755 : (Jvm.Cond.privateMethod ({ cls := "LettersOnStrikeModel", name := "isAct", desc := "()I" } : Jvm.MethodName)) ∈ lw_tbl := lw_at lw_m7 158 rfl
theorem q1756 : (Jvm.Cond.instanceMethod ({ cls := "LettersOnStrikeModel", name := "isAct", desc := "()I" } : Jvm.MethodName)) ∈ lw_all := lw_g (lw_at lw_m7 159 rfl) rfl
theorem q1757 : (Jvm.Cond.code ({ cls := "LettersOnStrikeModel", name := "isAct", desc := "()I" } : Jvm.MethodName) prog_18_method_53_code (2 : Nat) (Option.some Jvm.ClassFile.FieldType.int)) ∈ lw_all := lw_g (lw_at lw_m7 160 rfl) rfl
theorem q1758 : (Jvm.Cond.methodLink "LettersOnStrikeModel" (289 : Nat) ({ cls := "LettersOnStrikeModel", name := "body", desc := "(II)I" } : Jvm.MethodName)) ∈ lw_all := lw_g (lw_at lw_m7 161 rfl) rfl
theorem q1759 : (Jvm.Cond.privateMethod ({ cls := "LettersOnStrikeModel", name := "body", desc := "(II)I" } : Jvm.MethodName)) ∈ lw_tbl := lw_at lw_m7 162 rfl
theorem q1760 : (Jvm.Cond.instanceMethod ({ cls := "LettersOnStrikeModel", name := "body", desc := "(II)I" } : Jvm.MethodName)) ∈ lw_all := lw_g (lw_at lw_m7 163 rfl) rfl
theorem q1761 : (Jvm.Cond.code ({ cls := "LettersOnStrikeModel", name := "body", desc := "(II)I" } : Jvm.MethodName) prog_18_method_63_code (3 : Nat) (Option.some Jvm.ClassFile.FieldType.int)) ∈ lw_all := lw_g (lw_at lw_m7 164 rfl) rfl
theorem q1762 : (Jvm.Cond.methodLink "LettersOnStrikeModel" (265 : Nat) ({ cls := "LettersOnStrikeModel", name := "wordClause", desc := "(I)I" } : Jvm.MethodName)) ∈ lw_all := lw_g (lw_at lw_m7 165 rfl) rfl
theorem q1763 : (Jvm.Cond.privateMethod ({ cls := "LettersOnStrikeModel", name := "wordClause", desc := "(I)I" } : Jvm.MethodName)) ∈ lw_tbl := lw_at lw_m7 166 rfl
theorem q1764 : (Jvm.Cond.instanceMethod ({ cls := "LettersOnStrikeModel", name := "wordClause", desc := "(I)I" } : Jvm.MethodName)) ∈ lw_all := lw_g (lw_at lw_m7 167 rfl) rfl
theorem q1765 : (Jvm.Cond.code ({ cls := "LettersOnStrikeModel", name := "wordClause", desc := "(I)I" } : Jvm.MethodName) prog_18_method_57_code (4 : Nat) (Option.some Jvm.ClassFile.FieldType.int)) ∈ lw_all := lw_g (lw_at lw_m7 168 rfl) rfl
theorem q1766 : (Jvm.Cond.methodLink "LettersOnStrikeModel" (245 : Nat) ({ cls := "LettersOnStrikeModel", name := "letters", desc := "(I)I" } : Jvm.MethodName)) ∈ lw_all := lw_g (lw_at lw_m7 169 rfl) rfl
theorem q1767 : (Jvm.Cond.privateMethod ({ cls := "LettersOnStrikeModel", name := "letters", desc := "(I)I" } : Jvm.MethodName)) ∈ lw_tbl := lw_at lw_m7 170 rfl
theorem q1768 : (Jvm.Cond.instanceMethod ({ cls := "LettersOnStrikeModel", name := "letters", desc := "(I)I" } : Jvm.MethodName)) ∈ lw_all := lw_g (lw_at lw_m7 171 rfl) rfl
theorem q1769 : (Jvm.Cond.code ({ cls := "LettersOnStrikeModel", name := "letters", desc := "(I)I" } : Jvm.MethodName) prog_18_method_55_code (5 : Nat) (Option.some Jvm.ClassFile.FieldType.int)) ∈ lw_all := lw_g (lw_at lw_m7 172 rfl) rfl
theorem q1770 : (Jvm.Cond.methodLink "LettersOnStrikeModel" (248 : Nat) ({ cls := "LettersOnStrikeModel", name := "need", desc := "(J)I" } : Jvm.MethodName)) ∈ lw_all := lw_g (lw_at lw_m7 173 rfl) rfl
theorem q1771 : (Jvm.Cond.privateMethod ({ cls := "LettersOnStrikeModel", name := "need", desc := "(J)I" } : Jvm.MethodName)) ∈ lw_tbl := lw_at lw_m7 174 rfl
theorem q1772 : (Jvm.Cond.instanceMethod ({ cls := "LettersOnStrikeModel", name := "need", desc := "(J)I" } : Jvm.MethodName)) ∈ lw_all := lw_g (lw_at lw_m7 175 rfl) rfl
theorem q1773 : (Jvm.Cond.code ({ cls := "LettersOnStrikeModel", name := "need", desc := "(J)I" } : Jvm.MethodName) prog_18_method_56_code (3 : Nat) (Option.some Jvm.ClassFile.FieldType.int)) ∈ lw_all := lw_g (lw_at lw_m7 176 rfl) rfl
theorem q1774 : (Jvm.Cond.methodLink "LettersOnStrikeModel" (252 : Nat) ({ cls := "LettersOnStrikeModel", name := "figure", desc := "(III)I" } : Jvm.MethodName)) ∈ lw_all := lw_g (lw_at lw_m7 177 rfl) rfl
theorem q1775 : (Jvm.Cond.privateMethod ({ cls := "LettersOnStrikeModel", name := "figure", desc := "(III)I" } : Jvm.MethodName)) ∈ lw_tbl := lw_at lw_m7 178 rfl
theorem q1776 : (Jvm.Cond.instanceMethod ({ cls := "LettersOnStrikeModel", name := "figure", desc := "(III)I" } : Jvm.MethodName)) ∈ lw_all := lw_g (lw_at lw_m7 179 rfl) rfl
theorem q1777 : (Jvm.Cond.code ({ cls := "LettersOnStrikeModel", name := "figure", desc := "(III)I" } : Jvm.MethodName) prog_18_method_54_code (4 : Nat) (Option.some Jvm.ClassFile.FieldType.int)) ∈ lw_all := lw_g (lw_at lw_m7 180 rfl) rfl
theorem q1778 : (Jvm.Cond.methodLink "LettersOnStrikeModel" (268 : Nat) ({ cls := "LettersOnStrikeModel", name := "sayClause", desc := "(I)I" } : Jvm.MethodName)) ∈ lw_all := lw_g (lw_at lw_m7 181 rfl) rfl
theorem q1779 : (Jvm.Cond.privateMethod ({ cls := "LettersOnStrikeModel", name := "sayClause", desc := "(I)I" } : Jvm.MethodName)) ∈ lw_tbl := lw_at lw_m7 182 rfl
theorem q1780 : (Jvm.Cond.instanceMethod ({ cls := "LettersOnStrikeModel", name := "sayClause", desc := "(I)I" } : Jvm.MethodName)) ∈ lw_all := lw_g (lw_at lw_m7 183 rfl) rfl
theorem q1781 : (Jvm.Cond.code ({ cls := "LettersOnStrikeModel", name := "sayClause", desc := "(I)I" } : Jvm.MethodName) prog_18_method_58_code (4 : Nat) (Option.some Jvm.ClassFile.FieldType.int)) ∈ lw_all := lw_g (lw_at lw_m7 184 rfl) rfl
theorem q1782 : (Jvm.Cond.methodLink "LettersOnStrikeModel" (271 : Nat) ({ cls := "LettersOnStrikeModel", name := "tieClause", desc := "(I)I" } : Jvm.MethodName)) ∈ lw_all := lw_g (lw_at lw_m7 185 rfl) rfl
theorem q1783 : (Jvm.Cond.privateMethod ({ cls := "LettersOnStrikeModel", name := "tieClause", desc := "(I)I" } : Jvm.MethodName)) ∈ lw_tbl := lw_at lw_m7 186 rfl
theorem q1784 : (Jvm.Cond.instanceMethod ({ cls := "LettersOnStrikeModel", name := "tieClause", desc := "(I)I" } : Jvm.MethodName)) ∈ lw_all := lw_g (lw_at lw_m7 187 rfl) rfl
theorem q1785 : (Jvm.Cond.code ({ cls := "LettersOnStrikeModel", name := "tieClause", desc := "(I)I" } : Jvm.MethodName) prog_18_method_60_code (3 : Nat) (Option.some Jvm.ClassFile.FieldType.int)) ∈ lw_all := lw_g (lw_at lw_m7 188 rfl) rfl
theorem q1786 : (Jvm.Cond.constantLong "LettersOnStrikeModel" (258 : Nat) (29807 : Int64)) ∈ lw_all := lw_g (lw_at lw_m7 189 rfl) rfl
theorem q1787 : (Jvm.Cond.methodLink "LettersOnStrikeModel" (274 : Nat) ({ cls := "LettersOnStrikeModel", name := "raiseClause", desc := "(I)I" } : Jvm.MethodName)) ∈ lw_all := lw_g (lw_at lw_m7 190 rfl) rfl
theorem q1788 : (Jvm.Cond.privateMethod ({ cls := "LettersOnStrikeModel", name := "raiseClause", desc := "(I)I" } : Jvm.MethodName)) ∈ lw_tbl := lw_at lw_m7 191 rfl
theorem q1789 : (Jvm.Cond.instanceMethod ({ cls := "LettersOnStrikeModel", name := "raiseClause", desc := "(I)I" } : Jvm.MethodName)) ∈ lw_all := lw_g (lw_at lw_m7 192 rfl) rfl
theorem q1790 : (Jvm.Cond.code ({ cls := "LettersOnStrikeModel", name := "raiseClause", desc := "(I)I" } : Jvm.MethodName) prog_18_method_61_code (3 : Nat) (Option.some Jvm.ClassFile.FieldType.int)) ∈ lw_all := lw_g (lw_at lw_m7 193 rfl) rfl
theorem q1791 : (Jvm.Cond.constantLong "LettersOnStrikeModel" (260 : Nat) (25209 : Int64)) ∈ lw_all := lw_g (lw_at lw_m7 194 rfl) rfl
theorem q1792 : (Jvm.Cond.methodLink "LettersOnStrikeModel" (277 : Nat) ({ cls := "LettersOnStrikeModel", name := "signClause", desc := "(I)I" } : Jvm.MethodName)) ∈ lw_all := lw_g (lw_at lw_m7 195 rfl) rfl
theorem q1793 : (Jvm.Cond.privateMethod ({ cls := "LettersOnStrikeModel", name := "signClause", desc := "(I)I" } : Jvm.MethodName)) ∈ lw_tbl := lw_at lw_m7 196 rfl
theorem q1794 : (Jvm.Cond.instanceMethod ({ cls := "LettersOnStrikeModel", name := "signClause", desc := "(I)I" } : Jvm.MethodName)) ∈ lw_all := lw_g (lw_at lw_m7 197 rfl) rfl
theorem q1795 : (Jvm.Cond.code ({ cls := "LettersOnStrikeModel", name := "signClause", desc := "(I)I" } : Jvm.MethodName) prog_18_method_59_code (3 : Nat) (Option.some Jvm.ClassFile.FieldType.int)) ∈ lw_all := lw_g (lw_at lw_m7 198 rfl) rfl
theorem q1796 : (Jvm.Cond.constantLong "LettersOnStrikeModel" (256 : Nat) (24947 : Int64)) ∈ lw_all := lw_g (lw_at lw_m7 199 rfl) rfl
theorem q1797 : (Jvm.Cond.methodLink "LettersOnStrikeModel" (280 : Nat) ({ cls := "LettersOnStrikeModel", name := "lawClause", desc := "(II)I" } : Jvm.MethodName)) ∈ lw_all := lw_g (lw_at lw_m7 200 rfl) rfl
theorem q1798 : (Jvm.Cond.privateMethod ({ cls := "LettersOnStrikeModel", name := "lawClause", desc := "(II)I" } : Jvm.MethodName)) ∈ lw_tbl := lw_at lw_m7 201 rfl
theorem q1799 : (Jvm.Cond.instanceMethod ({ cls := "LettersOnStrikeModel", name := "lawClause", desc := "(II)I" } : Jvm.MethodName)) ∈ lw_all := lw_g (lw_at lw_m7 202 rfl) rfl
theorem q1800 : (Jvm.Cond.code ({ cls := "LettersOnStrikeModel", name := "lawClause", desc := "(II)I" } : Jvm.MethodName) prog_18_method_62_code (4 : Nat) (Option.some Jvm.ClassFile.FieldType.int)) ∈ lw_all := lw_g (lw_at lw_m7 203 rfl) rfl
theorem q1801 : (Jvm.Cond.methodLink "LettersOnStrikeModel" (231 : Nat) ({ cls := "LettersOnStrikeModel", name := "summed", desc := "()I" } : Jvm.MethodName)) ∈ lw_all := lw_g (lw_at lw_m7 204 rfl) rfl
theorem q1802 : (Jvm.Cond.privateMethod ({ cls := "LettersOnStrikeModel", name := "summed", desc := "()I" } : Jvm.MethodName)) ∈ lw_tbl := lw_at lw_m7 205 rfl
theorem q1803 : (Jvm.Cond.instanceMethod ({ cls := "LettersOnStrikeModel", name := "summed", desc := "()I" } : Jvm.MethodName)) ∈ lw_all := lw_g (lw_at lw_m7 206 rfl) rfl
theorem q1804 : (Jvm.Cond.code ({ cls := "LettersOnStrikeModel", name := "summed", desc := "()I" } : Jvm.MethodName) prog_18_method_48_code (2 : Nat) (Option.some Jvm.ClassFile.FieldType.int)) ∈ lw_all := lw_g (lw_at lw_m7 207 rfl) rfl
theorem q1805 : (Jvm.Cond.methodLink "LettersOnStrikeModel" (218 : Nat) ({ cls := "LettersOnStrikeModel", name := "goesOn", desc := "()Z" } : Jvm.MethodName)) ∈ lw_all := lw_g (lw_at lw_m7 208 rfl) rfl
theorem q1806 : (Jvm.Cond.privateMethod ({ cls := "LettersOnStrikeModel", name := "goesOn", desc := "()Z" } : Jvm.MethodName)) ∈ lw_tbl := lw_at lw_m7 209 rfl
theorem q1807 : (Jvm.Cond.instanceMethod ({ cls := "LettersOnStrikeModel", name := "goesOn", desc := "()Z" } : Jvm.MethodName)) ∈ lw_all := lw_g (lw_at lw_m7 210 rfl) rfl
theorem q1808 : (Jvm.Cond.code ({ cls := "LettersOnStrikeModel", name := "goesOn", desc := "()Z" } : Jvm.MethodName) prog_18_method_46_code (1 : Nat) (Option.some Jvm.ClassFile.FieldType.boolean)) ∈ lw_all := lw_g (lw_at lw_m7 211 rfl) rfl
theorem q1809 : (Jvm.Cond.methodLink "LettersOnStrikeModel" (212 : Nat) ({ cls := "LettersOnStrikeModel", name := "hasParen", desc := "()Z" } : Jvm.MethodName)) ∈ lw_all := lw_g (lw_at lw_m7 212 rfl) rfl
theorem q1810 : (Jvm.Cond.privateMethod ({ cls := "LettersOnStrikeModel", name := "hasParen", desc := "()Z" } : Jvm.MethodName)) ∈ lw_tbl := lw_at lw_m7 213 rfl
theorem q1811 : (Jvm.Cond.instanceMethod ({ cls := "LettersOnStrikeModel", name := "hasParen", desc := "()Z" } : Jvm.MethodName)) ∈ lw_all := lw_g (lw_at lw_m7 214 rfl) rfl
theorem q1812 : (Jvm.Cond.code ({ cls := "LettersOnStrikeModel", name := "hasParen", desc := "()Z" } : Jvm.MethodName) prog_18_method_45_code (2 : Nat) (Option.some Jvm.ClassFile.FieldType.boolean)) ∈ lw_all := lw_g (lw_at lw_m7 215 rfl) rfl
theorem q1813 : (Jvm.Cond.methodLink "LettersOnStrikeModel" (221 : Nat) ({ cls := "LettersOnStrikeModel", name := "behindOne", desc := "()I" } : Jvm.MethodName)) ∈ lw_all := lw_g (lw_at lw_m7 216 rfl) rfl
theorem q1814 : (Jvm.Cond.privateMethod ({ cls := "LettersOnStrikeModel", name := "behindOne", desc := "()I" } : Jvm.MethodName)) ∈ lw_tbl := lw_at lw_m7 217 rfl
theorem q1815 : (Jvm.Cond.instanceMethod ({ cls := "LettersOnStrikeModel", name := "behindOne", desc := "()I" } : Jvm.MethodName)) ∈ lw_all := lw_g (lw_at lw_m7 218 rfl) rfl
theorem q1816 : (Jvm.Cond.code ({ cls := "LettersOnStrikeModel", name := "behindOne", desc := "()I" } : Jvm.MethodName) prog_18_method_47_code (2 : Nat) (Option.some Jvm.ClassFile.FieldType.int)) ∈ lw_all := lw_g (lw_at lw_m7 219 rfl) rfl
theorem q1817 : (Jvm.Cond.methodLink "LettersOnStrikeModel" (215 : Nat) ({ cls := "LettersOnStrikeModel", name := "settle", desc := "(I)V" } : Jvm.MethodName)) ∈ lw_all := lw_g (lw_at lw_m7 220 rfl) rfl
theorem q1818 : (Jvm.Cond.privateMethod ({ cls := "LettersOnStrikeModel", name := "settle", desc := "(I)V" } : Jvm.MethodName)) ∈ lw_tbl := lw_at lw_m7 221 rfl
theorem q1819 : (Jvm.Cond.instanceMethod ({ cls := "LettersOnStrikeModel", name := "settle", desc := "(I)V" } : Jvm.MethodName)) ∈ lw_all := lw_g (lw_at lw_m7 222 rfl) rfl
theorem q1820 : (Jvm.Cond.code ({ cls := "LettersOnStrikeModel", name := "settle", desc := "(I)V" } : Jvm.MethodName) prog_18_method_40_code (2 : Nat) (Option.none : Option Jvm.ClassFile.FieldType)) ∈ lw_all := lw_g (lw_at lw_m7 223 rfl) rfl
theorem q1821 : (Jvm.Cond.methodLink "LettersOnStrikeModel" (179 : Nat) ({ cls := "LettersOnStrikeModel", name := "emit", desc := "(II)V" } : Jvm.MethodName)) ∈ lw_all := lw_g (lw_at lw_m7 224 rfl) rfl
theorem q1822 : (Jvm.Cond.privateMethod ({ cls := "LettersOnStrikeModel", name := "emit", desc := "(II)V" } : Jvm.MethodName)) ∈ lw_tbl := lw_at lw_m7 225 rfl
theorem q1823 : (Jvm.Cond.instanceMethod ({ cls := "LettersOnStrikeModel", name := "emit", desc := "(II)V" } : Jvm.MethodName)) ∈ lw_all := lw_g (lw_at lw_m7 226 rfl) rfl
theorem q1824 : (Jvm.Cond.code ({ cls := "LettersOnStrikeModel", name := "emit", desc := "(II)V" } : Jvm.MethodName) prog_18_method_37_code (3 : Nat) (Option.none : Option Jvm.ClassFile.FieldType)) ∈ lw_all := lw_g (lw_at lw_m7 227 rfl) rfl
theorem q1825 : (Jvm.Cond.methodLink "LettersOnStrikeModel" (209 : Nat) ({ cls := "LettersOnStrikeModel", name := "push", desc := "(I)V" } : Jvm.MethodName)) ∈ lw_all := lw_g (lw_at lw_m7 228 rfl) rfl
theorem q1826 : (Jvm.Cond.privateMethod ({ cls := "LettersOnStrikeModel", name := "push", desc := "(I)V" } : Jvm.MethodName)) ∈ lw_tbl := lw_at lw_m7 229 rfl
theorem q1827 : (Jvm.Cond.instanceMethod ({ cls := "LettersOnStrikeModel", name := "push", desc := "(I)V" } : Jvm.MethodName)) ∈ lw_all := lw_g (lw_at lw_m7 230 rfl) rfl
theorem q1828 : (Jvm.Cond.code ({ cls := "LettersOnStrikeModel", name := "push", desc := "(I)V" } : Jvm.MethodName) prog_18_method_38_code (2 : Nat) (Option.none : Option Jvm.ClassFile.FieldType)) ∈ lw_all := lw_g (lw_at lw_m7 231 rfl) rfl
theorem q1829 : (Jvm.Cond.methodLink "LettersOnStrikeModel" (200 : Nat) ({ cls := "LettersOnStrikeModel", name := "whole", desc := "()V" } : Jvm.MethodName)) ∈ lw_all := lw_g (lw_at lw_m7 232 rfl) rfl
theorem q1830 : (Jvm.Cond.privateMethod ({ cls := "LettersOnStrikeModel", name := "whole", desc := "()V" } : Jvm.MethodName)) ∈ lw_tbl := lw_at lw_m7 233 rfl
theorem q1831 : (Jvm.Cond.instanceMethod ({ cls := "LettersOnStrikeModel", name := "whole", desc := "()V" } : Jvm.MethodName)) ∈ lw_all := lw_g (lw_at lw_m7 234 rfl) rfl
theorem q1832 : (Jvm.Cond.code ({ cls := "LettersOnStrikeModel", name := "whole", desc := "()V" } : Jvm.MethodName) prog_18_method_39_code (1 : Nat) (Option.none : Option Jvm.ClassFile.FieldType)) ∈ lw_all := lw_g (lw_at lw_m7 235 rfl) rfl
theorem q1833 : (Jvm.Cond.methodLink "LettersOnStrikeModel" (224 : Nat) ({ cls := "LettersOnStrikeModel", name := "beginOne", desc := "()I" } : Jvm.MethodName)) ∈ lw_all := lw_g (lw_at lw_m7 236 rfl) rfl
theorem q1834 : (Jvm.Cond.privateMethod ({ cls := "LettersOnStrikeModel", name := "beginOne", desc := "()I" } : Jvm.MethodName)) ∈ lw_tbl := lw_at lw_m7 237 rfl
theorem q1835 : (Jvm.Cond.instanceMethod ({ cls := "LettersOnStrikeModel", name := "beginOne", desc := "()I" } : Jvm.MethodName)) ∈ lw_all := lw_g (lw_at lw_m7 238 rfl) rfl
theorem q1836 : (Jvm.Cond.code ({ cls := "LettersOnStrikeModel", name := "beginOne", desc := "()I" } : Jvm.MethodName) prog_18_method_44_code (2 : Nat) (Option.some Jvm.ClassFile.FieldType.int)) ∈ lw_all := lw_g (lw_at lw_m7 239 rfl) rfl
theorem q1837 : (Jvm.Cond.methodLink "LettersOnStrikeModel" (203 : Nat) ({ cls := "LettersOnStrikeModel", name := "nameOf", desc := "()I" } : Jvm.MethodName)) ∈ lw_all := lw_g (lw_at lw_m8 0 rfl) rfl
theorem q1838 : (Jvm.Cond.privateMethod ({ cls := "LettersOnStrikeModel", name := "nameOf", desc := "()I" } : Jvm.MethodName)) ∈ lw_tbl := lw_at lw_m8 1 rfl
theorem q1839 : (Jvm.Cond.instanceMethod ({ cls := "LettersOnStrikeModel", name := "nameOf", desc := "()I" } : Jvm.MethodName)) ∈ lw_all := lw_g (lw_at lw_m8 2 rfl) rfl
theorem q1840 : (Jvm.Cond.code ({ cls := "LettersOnStrikeModel", name := "nameOf", desc := "()I" } : Jvm.MethodName) prog_18_method_42_code (1 : Nat) (Option.some Jvm.ClassFile.FieldType.int)) ∈ lw_all := lw_g (lw_at lw_m8 3 rfl) rfl
theorem q1841 : (Jvm.Cond.methodLink "LettersOnStrikeModel" (191 : Nat) ({ cls := "LettersOnStrikeModel", name := "lawName", desc := "()I" } : Jvm.MethodName)) ∈ lw_all := lw_g (lw_at lw_m8 4 rfl) rfl
theorem q1842 : (Jvm.Cond.privateMethod ({ cls := "LettersOnStrikeModel", name := "lawName", desc := "()I" } : Jvm.MethodName)) ∈ lw_tbl := lw_at lw_m8 5 rfl
theorem q1843 : (Jvm.Cond.instanceMethod ({ cls := "LettersOnStrikeModel", name := "lawName", desc := "()I" } : Jvm.MethodName)) ∈ lw_all := lw_g (lw_at lw_m8 6 rfl) rfl
theorem q1844 : (Jvm.Cond.code ({ cls := "LettersOnStrikeModel", name := "lawName", desc := "()I" } : Jvm.MethodName) prog_18_method_41_code (1 : Nat) (Option.some Jvm.ClassFile.FieldType.int)) ∈ lw_all := lw_g (lw_at lw_m8 7 rfl) rfl
theorem q1845 : (Jvm.Cond.methodLink "LettersOnStrikeModel" (206 : Nat) ({ cls := "LettersOnStrikeModel", name := "isBarred", desc := "(I)Z" } : Jvm.MethodName)) ∈ lw_all := lw_g (lw_at lw_m8 8 rfl) rfl
theorem q1846 : (Jvm.Cond.privateMethod ({ cls := "LettersOnStrikeModel", name := "isBarred", desc := "(I)Z" } : Jvm.MethodName)) ∈ lw_tbl := lw_at lw_m8 9 rfl
theorem q1847 : (Jvm.Cond.instanceMethod ({ cls := "LettersOnStrikeModel", name := "isBarred", desc := "(I)Z" } : Jvm.MethodName)) ∈ lw_all := lw_g (lw_at lw_m8 10 rfl) rfl
theorem q1848 : (Jvm.Cond.code ({ cls := "LettersOnStrikeModel", name := "isBarred", desc := "(I)Z" } : Jvm.MethodName) prog_18_method_43_code (2 : Nat) (Option.some Jvm.ClassFile.FieldType.boolean)) ∈ lw_all := lw_g (lw_at lw_m8 11 rfl) rfl
theorem q1849 : (Jvm.Cond.methodLink "LettersOnStrikeModel" (262 : Nat) ({ cls := "LettersOnStrikeModel", name := "either", desc := "()I" } : Jvm.MethodName)) ∈ lw_all := lw_g (lw_at lw_m8 12 rfl) rfl
theorem q1850 : (Jvm.Cond.privateMethod ({ cls := "LettersOnStrikeModel", name := "either", desc := "()I" } : Jvm.MethodName)) ∈ lw_tbl := lw_at lw_m8 13 rfl
theorem q1851 : (Jvm.Cond.instanceMethod ({ cls := "LettersOnStrikeModel", name := "either", desc := "()I" } : Jvm.MethodName)) ∈ lw_all := lw_g (lw_at lw_m8 14 rfl) rfl
theorem q1852 : (Jvm.Cond.code ({ cls := "LettersOnStrikeModel", name := "either", desc := "()I" } : Jvm.MethodName) prog_18_method_51_code (6 : Nat) (Option.some Jvm.ClassFile.FieldType.int)) ∈ lw_all := lw_g (lw_at lw_m8 15 rfl) rfl
theorem q1853 : (Jvm.Cond.methodLink "LettersOnStrikeModel" (237 : Nat) ({ cls := "LettersOnStrikeModel", name := "asks", desc := "()I" } : Jvm.MethodName)) ∈ lw_all := lw_g (lw_at lw_m8 16 rfl) rfl
theorem q1854 : (Jvm.Cond.privateMethod ({ cls := "LettersOnStrikeModel", name := "asks", desc := "()I" } : Jvm.MethodName)) ∈ lw_tbl := lw_at lw_m8 17 rfl
theorem q1855 : (Jvm.Cond.instanceMethod ({ cls := "LettersOnStrikeModel", name := "asks", desc := "()I" } : Jvm.MethodName)) ∈ lw_all := lw_g (lw_at lw_m8 18 rfl) rfl
theorem q1856 : (Jvm.Cond.code ({ cls := "LettersOnStrikeModel", name := "asks", desc := "()I" } : Jvm.MethodName) prog_18_method_50_code (5 : Nat) (Option.some Jvm.ClassFile.FieldType.int)) ∈ lw_all := lw_g (lw_at lw_m8 19 rfl) rfl
theorem q1857 : (Jvm.Cond.methodLink "LettersOnStrikeModel" (234 : Nat) ({ cls := "LettersOnStrikeModel", name := "compareOf", desc := "()I" } : Jvm.MethodName)) ∈ lw_all := lw_g (lw_at lw_m8 20 rfl) rfl
theorem q1858 : (Jvm.Cond.privateMethod ({ cls := "LettersOnStrikeModel", name := "compareOf", desc := "()I" } : Jvm.MethodName)) ∈ lw_tbl := lw_at lw_m8 21 rfl
theorem q1859 : (Jvm.Cond.instanceMethod ({ cls := "LettersOnStrikeModel", name := "compareOf", desc := "()I" } : Jvm.MethodName)) ∈ lw_all := lw_g (lw_at lw_m8 22 rfl) rfl
theorem q1860 : (Jvm.Cond.code ({ cls := "LettersOnStrikeModel", name := "compareOf", desc := "()I" } : Jvm.MethodName) prog_18_method_49_code (1 : Nat) (Option.some Jvm.ClassFile.FieldType.int)) ∈ lw_all := lw_g (lw_at lw_m8 23 rfl) rfl
theorem q1861 : (Jvm.Cond.constantLong "LettersOnStrikeModel" (240 : Nat) (28530 : Int64)) ∈ lw_all := lw_g (lw_at lw_m8 24 rfl) rfl
theorem q1862 : (Jvm.Cond.methodLink "LettersOnStrikeLaw" (45 : Nat) ({ cls := "LettersOnStrikeModel", name := "fault", desc := "(I)I" } : Jvm.MethodName)) ∈ lw_all := lw_g (lw_at lw_m8 25 rfl) rfl
theorem q1863 : (Jvm.Cond.instanceMethod ({ cls := "LettersOnStrikeModel", name := "fault", desc := "(I)I" } : Jvm.MethodName)) ∈ lw_all := lw_g (lw_at lw_m8 26 rfl) rfl
theorem q1864 : (Jvm.Cond.selects "LettersOnStrikeModel" ({ cls := "LettersOnStrikeModel", name := "fault", desc := "(I)I" } : Jvm.MethodName) ({ cls := "LettersOnStrikeModel", name := "fault", desc := "(I)I" } : Jvm.MethodName)) ∈ lw_all := lw_g (lw_at lw_m8 27 rfl) rfl
theorem q1865 : (Jvm.Cond.code ({ cls := "LettersOnStrikeModel", name := "fault", desc := "(I)I" } : Jvm.MethodName) prog_18_method_67_code (2 : Nat) (Option.some Jvm.ClassFile.FieldType.int)) ∈ lw_all := lw_g (lw_at lw_m8 28 rfl) rfl
theorem q1866 : (Jvm.Cond.methodLink "LettersOnStrikeLaw" (50 : Nat) ({ cls := "LettersOnStrikeModel", name := "by", desc := "(I)Z" } : Jvm.MethodName)) ∈ lw_all := lw_g (lw_at lw_m8 29 rfl) rfl
theorem q1867 : (Jvm.Cond.instanceMethod ({ cls := "LettersOnStrikeModel", name := "by", desc := "(I)Z" } : Jvm.MethodName)) ∈ lw_all := lw_g (lw_at lw_m8 30 rfl) rfl
theorem q1868 : (Jvm.Cond.selects "LettersOnStrikeModel" ({ cls := "LettersOnStrikeModel", name := "by", desc := "(I)Z" } : Jvm.MethodName) ({ cls := "LettersOnStrikeModel", name := "by", desc := "(I)Z" } : Jvm.MethodName)) ∈ lw_all := lw_g (lw_at lw_m8 31 rfl) rfl
theorem q1869 : (Jvm.Cond.code ({ cls := "LettersOnStrikeModel", name := "by", desc := "(I)Z" } : Jvm.MethodName) prog_18_method_68_code (2 : Nat) (Option.some Jvm.ClassFile.FieldType.boolean)) ∈ lw_all := lw_g (lw_at lw_m8 32 rfl) rfl
theorem q1870 : (Jvm.Cond.methodLink "LettersOnStrikeLaw" (87 : Nat) ({ cls := "LettersOnStrikeModel", name := "undo", desc := "()I" } : Jvm.MethodName)) ∈ lw_all := lw_g (lw_at lw_m8 33 rfl) rfl
theorem q1871 : (Jvm.Cond.instanceMethod ({ cls := "LettersOnStrikeModel", name := "undo", desc := "()I" } : Jvm.MethodName)) ∈ lw_all := lw_g (lw_at lw_m8 34 rfl) rfl
theorem q1872 : (Jvm.Cond.selects "LettersOnStrikeModel" ({ cls := "LettersOnStrikeModel", name := "undo", desc := "()I" } : Jvm.MethodName) ({ cls := "LettersOnStrikeModel", name := "undo", desc := "()I" } : Jvm.MethodName)) ∈ lw_all := lw_g (lw_at lw_m8 35 rfl) rfl
theorem q1873 : (Jvm.Cond.code ({ cls := "LettersOnStrikeModel", name := "undo", desc := "()I" } : Jvm.MethodName) prog_18_method_77_code (3 : Nat) (Option.some Jvm.ClassFile.FieldType.int)) ∈ lw_all := lw_g (lw_at lw_m8 36 rfl) rfl
theorem q1874 : (Jvm.Cond.methodLink "LettersOnStrikeLaw" (54 : Nat) ({ cls := "LettersOnStrikeModel", name := "morning", desc := "(I)I" } : Jvm.MethodName)) ∈ lw_all := lw_g (lw_at lw_m8 37 rfl) rfl
theorem q1875 : (Jvm.Cond.instanceMethod ({ cls := "LettersOnStrikeModel", name := "morning", desc := "(I)I" } : Jvm.MethodName)) ∈ lw_all := lw_g (lw_at lw_m8 38 rfl) rfl
theorem q1876 : (Jvm.Cond.selects "LettersOnStrikeModel" ({ cls := "LettersOnStrikeModel", name := "morning", desc := "(I)I" } : Jvm.MethodName) ({ cls := "LettersOnStrikeModel", name := "morning", desc := "(I)I" } : Jvm.MethodName)) ∈ lw_all := lw_g (lw_at lw_m8 39 rfl) rfl
theorem q1877 : (Jvm.Cond.code ({ cls := "LettersOnStrikeModel", name := "morning", desc := "(I)I" } : Jvm.MethodName) prog_18_method_80_code (4 : Nat) (Option.some Jvm.ClassFile.FieldType.int)) ∈ lw_all := lw_g (lw_at lw_m8 40 rfl) rfl
theorem q1878 : (Jvm.Cond.methodLink "LettersOnStrikeModel" (341 : Nat) ({ cls := "LettersOnStrikeModel", name := "isMorning", desc := "()Z" } : Jvm.MethodName)) ∈ lw_all := lw_g (lw_at lw_m8 41 rfl) rfl
theorem q1879 : (Jvm.Cond.privateMethod ({ cls := "LettersOnStrikeModel", name := "isMorning", desc := "()Z" } : Jvm.MethodName)) ∈ lw_tbl := lw_at lw_m8 42 rfl
theorem q1880 : (Jvm.Cond.instanceMethod ({ cls := "LettersOnStrikeModel", name := "isMorning", desc := "()Z" } : Jvm.MethodName)) ∈ lw_all := lw_g (lw_at lw_m8 43 rfl) rfl
theorem q1881 : (Jvm.Cond.code ({ cls := "LettersOnStrikeModel", name := "isMorning", desc := "()Z" } : Jvm.MethodName) prog_18_method_79_code (1 : Nat) (Option.some Jvm.ClassFile.FieldType.boolean)) ∈ lw_all := lw_g (lw_at lw_m8 44 rfl) rfl
theorem q1882 : (Jvm.Cond.methodLink "LettersOnStrikeModel" (335 : Nat) ({ cls := "LettersOnStrikeModel", name := "keep", desc := "()V" } : Jvm.MethodName)) ∈ lw_all := lw_g (lw_at lw_m8 45 rfl) rfl
theorem q1883 : (Jvm.Cond.privateMethod ({ cls := "LettersOnStrikeModel", name := "keep", desc := "()V" } : Jvm.MethodName)) ∈ lw_tbl := lw_at lw_m8 46 rfl
theorem q1884 : (Jvm.Cond.instanceMethod ({ cls := "LettersOnStrikeModel", name := "keep", desc := "()V" } : Jvm.MethodName)) ∈ lw_all := lw_g (lw_at lw_m8 47 rfl) rfl
theorem q1885 : (Jvm.Cond.code ({ cls := "LettersOnStrikeModel", name := "keep", desc := "()V" } : Jvm.MethodName) prog_18_method_76_code (3 : Nat) (Option.none : Option Jvm.ClassFile.FieldType)) ∈ lw_all := lw_g (lw_at lw_m8 48 rfl) rfl
theorem q1886 : (Jvm.Cond.methodLink "LettersOnStrikeModel" (338 : Nat) ({ cls := "LettersOnStrikeModel", name := "dawn", desc := "()V" } : Jvm.MethodName)) ∈ lw_all := lw_g (lw_at lw_m8 49 rfl) rfl
theorem q1887 : (Jvm.Cond.privateMethod ({ cls := "LettersOnStrikeModel", name := "dawn", desc := "()V" } : Jvm.MethodName)) ∈ lw_tbl := lw_at lw_m8 50 rfl
theorem q1888 : (Jvm.Cond.instanceMethod ({ cls := "LettersOnStrikeModel", name := "dawn", desc := "()V" } : Jvm.MethodName)) ∈ lw_all := lw_g (lw_at lw_m8 51 rfl) rfl
theorem q1889 : (Jvm.Cond.code ({ cls := "LettersOnStrikeModel", name := "dawn", desc := "()V" } : Jvm.MethodName) prog_18_method_78_code (3 : Nat) (Option.none : Option Jvm.ClassFile.FieldType)) ∈ lw_all := lw_g (lw_at lw_m8 52 rfl) rfl
theorem q1890 : (Jvm.Cond.methodLink "LettersOnStrikeModel" (332 : Nat) ({ cls := "LettersOnStrikeModel", name := "wouldChange", desc := "(I)Z" } : Jvm.MethodName)) ∈ lw_all := lw_g (lw_at lw_m8 53 rfl) rfl
theorem q1891 : (Jvm.Cond.privateMethod ({ cls := "LettersOnStrikeModel", name := "wouldChange", desc := "(I)Z" } : Jvm.MethodName)) ∈ lw_tbl := lw_at lw_m8 54 rfl
theorem q1892 : (Jvm.Cond.instanceMethod ({ cls := "LettersOnStrikeModel", name := "wouldChange", desc := "(I)Z" } : Jvm.MethodName)) ∈ lw_all := lw_g (lw_at lw_m8 55 rfl) rfl
theorem q1893 : (Jvm.Cond.code ({ cls := "LettersOnStrikeModel", name := "wouldChange", desc := "(I)Z" } : Jvm.MethodName) prog_18_method_75_code (5 : Nat) (Option.some Jvm.ClassFile.FieldType.boolean)) ∈ lw_all := lw_g (lw_at lw_m8 56 rfl) rfl
theorem q1894 : (Jvm.Cond.methodLink "LettersOnStrikeModel" (314 : Nat) ({ cls := "LettersOnStrikeModel", name := "isOut", desc := "(I)Z" } : Jvm.MethodName)) ∈ lw_all := lw_g (lw_at lw_m8 57 rfl) rfl
theorem q1895 : (Jvm.Cond.privateMethod ({ cls := "LettersOnStrikeModel", name := "isOut", desc := "(I)Z" } : Jvm.MethodName)) ∈ lw_tbl := lw_at lw_m8 58 rfl
theorem q1896 : (Jvm.Cond.instanceMethod ({ cls := "LettersOnStrikeModel", name := "isOut", desc := "(I)Z" } : Jvm.MethodName)) ∈ lw_all := lw_g (lw_at lw_m8 59 rfl) rfl
theorem q1897 : (Jvm.Cond.code ({ cls := "LettersOnStrikeModel", name := "isOut", desc := "(I)Z" } : Jvm.MethodName) prog_18_method_10_code (2 : Nat) (Option.some Jvm.ClassFile.FieldType.boolean)) ∈ lw_all := lw_g (lw_at lw_m8 60 rfl) rfl
theorem q1898 : (Jvm.Cond.methodLink "LettersOnStrikeModel" (317 : Nat) ({ cls := "LettersOnStrikeModel", name := "clauseOf", desc := "(I)I" } : Jvm.MethodName)) ∈ lw_all := lw_g (lw_at lw_m8 61 rfl) rfl
theorem q1899 : (Jvm.Cond.privateMethod ({ cls := "LettersOnStrikeModel", name := "clauseOf", desc := "(I)I" } : Jvm.MethodName)) ∈ lw_tbl := lw_at lw_m8 62 rfl
theorem q1900 : (Jvm.Cond.instanceMethod ({ cls := "LettersOnStrikeModel", name := "clauseOf", desc := "(I)I" } : Jvm.MethodName)) ∈ lw_all := lw_g (lw_at lw_m8 63 rfl) rfl
theorem q1901 : (Jvm.Cond.code ({ cls := "LettersOnStrikeModel", name := "clauseOf", desc := "(I)I" } : Jvm.MethodName) prog_18_method_73_code (3 : Nat) (Option.some Jvm.ClassFile.FieldType.int)) ∈ lw_all := lw_g (lw_at lw_m8 64 rfl) rfl
theorem q1902 : (Jvm.Cond.methodLink "LettersOnStrikeModel" (320 : Nat) ({ cls := "LettersOnStrikeModel", name := "bits", desc := "(I)I" } : Jvm.MethodName)) ∈ lw_all := lw_g (lw_at lw_m8 65 rfl) rfl
theorem q1903 : (Jvm.Cond.static ({ cls := "LettersOnStrikeModel", name := "bits", desc := "(I)I" } : Jvm.MethodName)) ∈ lw_all := lw_g (lw_at lw_m8 66 rfl) rfl
theorem q1904 : (Jvm.Cond.code ({ cls := "LettersOnStrikeModel", name := "bits", desc := "(I)I" } : Jvm.MethodName) prog_18_method_5_code (3 : Nat) (Option.some Jvm.ClassFile.FieldType.int)) ∈ lw_all := lw_g (lw_at lw_m8 67 rfl) rfl
theorem q1905 : (Jvm.Cond.methodLink "LettersOnStrikeModel" (323 : Nat) ({ cls := "LettersOnStrikeModel", name := "isVowel", desc := "(I)Z" } : Jvm.MethodName)) ∈ lw_all := lw_g (lw_at lw_m8 68 rfl) rfl
theorem q1906 : (Jvm.Cond.static ({ cls := "LettersOnStrikeModel", name := "isVowel", desc := "(I)Z" } : Jvm.MethodName)) ∈ lw_all := lw_g (lw_at lw_m8 69 rfl) rfl
theorem q1907 : (Jvm.Cond.code ({ cls := "LettersOnStrikeModel", name := "isVowel", desc := "(I)Z" } : Jvm.MethodName) prog_18_method_74_code (1 : Nat) (Option.some Jvm.ClassFile.FieldType.boolean)) ∈ lw_all := lw_g (lw_at lw_m8 70 rfl) rfl
theorem q1908 : (Jvm.Cond.methodLink "LettersOnStrikeModel" (326 : Nat) ({ cls := "LettersOnStrikeModel", name := "usesOf", desc := "(I)I" } : Jvm.MethodName)) ∈ lw_all := lw_g (lw_at lw_m8 71 rfl) rfl
theorem q1909 : (Jvm.Cond.privateMethod ({ cls := "LettersOnStrikeModel", name := "usesOf", desc := "(I)I" } : Jvm.MethodName)) ∈ lw_tbl := lw_at lw_m8 72 rfl
theorem q1910 : (Jvm.Cond.instanceMethod ({ cls := "LettersOnStrikeModel", name := "usesOf", desc := "(I)I" } : Jvm.MethodName)) ∈ lw_all := lw_g (lw_at lw_m8 73 rfl) rfl
theorem q1911 : (Jvm.Cond.code ({ cls := "LettersOnStrikeModel", name := "usesOf", desc := "(I)I" } : Jvm.MethodName) prog_18_method_15_code (4 : Nat) (Option.some Jvm.ClassFile.FieldType.int)) ∈ lw_all := lw_g (lw_at lw_m8 74 rfl) rfl
theorem q1912 : (Jvm.Cond.methodLink "LettersOnStrikeModel" (94 : Nat) ({ cls := "LettersOnStrikeModel", name := "setOf", desc := "(I)I" } : Jvm.MethodName)) ∈ lw_all := lw_g (lw_at lw_m8 75 rfl) rfl
theorem q1913 : (Jvm.Cond.privateMethod ({ cls := "LettersOnStrikeModel", name := "setOf", desc := "(I)I" } : Jvm.MethodName)) ∈ lw_tbl := lw_at lw_m8 76 rfl
theorem q1914 : (Jvm.Cond.instanceMethod ({ cls := "LettersOnStrikeModel", name := "setOf", desc := "(I)I" } : Jvm.MethodName)) ∈ lw_all := lw_g (lw_at lw_m8 77 rfl) rfl
theorem q1915 : (Jvm.Cond.code ({ cls := "LettersOnStrikeModel", name := "setOf", desc := "(I)I" } : Jvm.MethodName) prog_18_method_14_code (4 : Nat) (Option.some Jvm.ClassFile.FieldType.int)) ∈ lw_all := lw_g (lw_at lw_m8 78 rfl) rfl
theorem q1916 : (Jvm.Cond.methodLink "LettersOnStrikeModel" (329 : Nat) ({ cls := "LettersOnStrikeModel", name := "work", desc := "(I)V" } : Jvm.MethodName)) ∈ lw_all := lw_g (lw_at lw_m8 79 rfl) rfl
theorem q1917 : (Jvm.Cond.privateMethod ({ cls := "LettersOnStrikeModel", name := "work", desc := "(I)V" } : Jvm.MethodName)) ∈ lw_tbl := lw_at lw_m8 80 rfl
theorem q1918 : (Jvm.Cond.instanceMethod ({ cls := "LettersOnStrikeModel", name := "work", desc := "(I)V" } : Jvm.MethodName)) ∈ lw_all := lw_g (lw_at lw_m8 81 rfl) rfl
theorem q1919 : (Jvm.Cond.code ({ cls := "LettersOnStrikeModel", name := "work", desc := "(I)V" } : Jvm.MethodName) prog_18_method_72_code (9 : Nat) (Option.none : Option Jvm.ClassFile.FieldType)) ∈ lw_all := lw_g (lw_at lw_m8 82 rfl) rfl
theorem q1920 : (Jvm.Cond.methodLink "LettersOnStrikeModel" (306 : Nat) ({ cls := "LettersOnStrikeModel", name := "two", desc := "(IJJ)J" } : Jvm.MethodName)) ∈ lw_all := lw_g (lw_at lw_m8 83 rfl) rfl
theorem q1921 : (Jvm.Cond.static ({ cls := "LettersOnStrikeModel", name := "two", desc := "(IJJ)J" } : Jvm.MethodName)) ∈ lw_all := lw_g (lw_at lw_m8 84 rfl) rfl
theorem q1922 : (Jvm.Cond.code ({ cls := "LettersOnStrikeModel", name := "two", desc := "(IJJ)J" } : Jvm.MethodName) prog_18_method_70_code (5 : Nat) (Option.some Jvm.ClassFile.FieldType.long)) ∈ lw_all := lw_g (lw_at lw_m8 85 rfl) rfl
theorem q1923 : (Jvm.Cond.methodLink "LettersOnStrikeModel" (302 : Nat) ({ cls := "LettersOnStrikeModel", name := "clip", desc := "(J)J" } : Jvm.MethodName)) ∈ lw_all := lw_g (lw_at lw_m8 86 rfl) rfl
theorem q1924 : (Jvm.Cond.static ({ cls := "LettersOnStrikeModel", name := "clip", desc := "(J)J" } : Jvm.MethodName)) ∈ lw_all := lw_g (lw_at lw_m8 87 rfl) rfl
theorem q1925 : (Jvm.Cond.code ({ cls := "LettersOnStrikeModel", name := "clip", desc := "(J)J" } : Jvm.MethodName) prog_18_method_69_code (2 : Nat) (Option.some Jvm.ClassFile.FieldType.long)) ∈ lw_all := lw_g (lw_at lw_m8 88 rfl) rfl
theorem q1926 : (Jvm.Cond.constantLong "LettersOnStrikeModel" (298 : Nat) (1000000 : Int64)) ∈ lw_all := lw_g (lw_at lw_m8 89 rfl) rfl
theorem q1927 : (Jvm.Cond.constantLong "LettersOnStrikeModel" (300 : Nat) (-1000000 : Int64)) ∈ lw_all := lw_g (lw_at lw_m8 90 rfl) rfl
theorem q1928 : (Jvm.Cond.methodLink "LettersOnStrikeModel" (310 : Nat) ({ cls := "LettersOnStrikeModel", name := "isAsked", desc := "(IJJ)Z" } : Jvm.MethodName)) ∈ lw_all := lw_g (lw_at lw_m8 91 rfl) rfl
theorem q1929 : (Jvm.Cond.static ({ cls := "LettersOnStrikeModel", name := "isAsked", desc := "(IJJ)Z" } : Jvm.MethodName)) ∈ lw_all := lw_g (lw_at lw_m8 92 rfl) rfl
theorem q1930 : (Jvm.Cond.code ({ cls := "LettersOnStrikeModel", name := "isAsked", desc := "(IJJ)Z" } : Jvm.MethodName) prog_18_method_71_code (5 : Nat) (Option.some Jvm.ClassFile.FieldType.boolean)) ∈ lw_all := lw_g (lw_at lw_m8 93 rfl) rfl
theorem q1931 : (Jvm.Cond.methodLink "LettersOnStrikeLaw" (58 : Nat) ({ cls := "LettersOnStrikeModel", name := "strike", desc := "(I)I" } : Jvm.MethodName)) ∈ lw_all := lw_g (lw_at lw_m8 94 rfl) rfl
theorem q1932 : (Jvm.Cond.instanceMethod ({ cls := "LettersOnStrikeModel", name := "strike", desc := "(I)I" } : Jvm.MethodName)) ∈ lw_all := lw_g (lw_at lw_m8 95 rfl) rfl
theorem q1933 : (Jvm.Cond.selects "LettersOnStrikeModel" ({ cls := "LettersOnStrikeModel", name := "strike", desc := "(I)I" } : Jvm.MethodName) ({ cls := "LettersOnStrikeModel", name := "strike", desc := "(I)I" } : Jvm.MethodName)) ∈ lw_all := lw_g (lw_at lw_m8 96 rfl) rfl
theorem q1934 : (Jvm.Cond.code ({ cls := "LettersOnStrikeModel", name := "strike", desc := "(I)I" } : Jvm.MethodName) prog_18_method_82_code (2 : Nat) (Option.some Jvm.ClassFile.FieldType.int)) ∈ lw_all := lw_g (lw_at lw_m8 97 rfl) rfl
theorem q1935 : (Jvm.Cond.methodLink "LettersOnStrikeModel" (344 : Nat) ({ cls := "LettersOnStrikeModel", name := "isSet", desc := "(I)Z" } : Jvm.MethodName)) ∈ lw_all := lw_g (lw_at lw_m8 98 rfl) rfl
theorem q1936 : (Jvm.Cond.static ({ cls := "LettersOnStrikeModel", name := "isSet", desc := "(I)Z" } : Jvm.MethodName)) ∈ lw_all := lw_g (lw_at lw_m8 99 rfl) rfl
theorem q1937 : (Jvm.Cond.code ({ cls := "LettersOnStrikeModel", name := "isSet", desc := "(I)Z" } : Jvm.MethodName) prog_18_method_7_code (1 : Nat) (Option.some Jvm.ClassFile.FieldType.boolean)) ∈ lw_all := lw_g (lw_at lw_m8 100 rfl) rfl
theorem q1938 : (Jvm.Cond.constant "LettersOnStrikeModel" (81 : Nat) (67108863 : Int32)) ∈ lw_all := lw_g (lw_at lw_m8 101 rfl) rfl
theorem q1939 : (Jvm.Cond.methodLink "LettersOnStrikeModel" (347 : Nat) ({ cls := "LettersOnStrikeModel", name := "call", desc := "(I)I" } : Jvm.MethodName)) ∈ lw_all := lw_g (lw_at lw_m8 102 rfl) rfl
theorem q1940 : (Jvm.Cond.privateMethod ({ cls := "LettersOnStrikeModel", name := "call", desc := "(I)I" } : Jvm.MethodName)) ∈ lw_tbl := lw_at lw_m8 103 rfl
theorem q1941 : (Jvm.Cond.instanceMethod ({ cls := "LettersOnStrikeModel", name := "call", desc := "(I)I" } : Jvm.MethodName)) ∈ lw_all := lw_g (lw_at lw_m8 104 rfl) rfl
theorem q1942 : (Jvm.Cond.code ({ cls := "LettersOnStrikeModel", name := "call", desc := "(I)I" } : Jvm.MethodName) prog_18_method_81_code (3 : Nat) (Option.some Jvm.ClassFile.FieldType.int)) ∈ lw_all := lw_g (lw_at lw_m8 105 rfl) rfl
theorem q1943 : (Jvm.Cond.methodLink "LettersOnStrikeLaw" (62 : Nat) ({ cls := "LettersOnStrikeModel", name := "comeBack", desc := "(I)I" } : Jvm.MethodName)) ∈ lw_all := lw_g (lw_at lw_m8 106 rfl) rfl
theorem q1944 : (Jvm.Cond.instanceMethod ({ cls := "LettersOnStrikeModel", name := "comeBack", desc := "(I)I" } : Jvm.MethodName)) ∈ lw_all := lw_g (lw_at lw_m8 107 rfl) rfl
theorem q1945 : (Jvm.Cond.selects "LettersOnStrikeModel" ({ cls := "LettersOnStrikeModel", name := "comeBack", desc := "(I)I" } : Jvm.MethodName) ({ cls := "LettersOnStrikeModel", name := "comeBack", desc := "(I)I" } : Jvm.MethodName)) ∈ lw_all := lw_g (lw_at lw_m8 108 rfl) rfl
theorem q1946 : (Jvm.Cond.code ({ cls := "LettersOnStrikeModel", name := "comeBack", desc := "(I)I" } : Jvm.MethodName) prog_18_method_83_code (2 : Nat) (Option.some Jvm.ClassFile.FieldType.int)) ∈ lw_all := lw_g (lw_at lw_m8 109 rfl) rfl
theorem q1947 : (Jvm.Cond.methodLink "LettersOnStrikeLaw" (66 : Nat) ({ cls := "LettersOnStrikeModel", name := "raise", desc := "(II)Z" } : Jvm.MethodName)) ∈ lw_all := lw_g (lw_at lw_m8 110 rfl) rfl
theorem q1948 : (Jvm.Cond.instanceMethod ({ cls := "LettersOnStrikeModel", name := "raise", desc := "(II)Z" } : Jvm.MethodName)) ∈ lw_all := lw_g (lw_at lw_m8 111 rfl) rfl
theorem q1949 : (Jvm.Cond.selects "LettersOnStrikeModel" ({ cls := "LettersOnStrikeModel", name := "raise", desc := "(II)Z" } : Jvm.MethodName) ({ cls := "LettersOnStrikeModel", name := "raise", desc := "(II)Z" } : Jvm.MethodName)) ∈ lw_all := lw_g (lw_at lw_m8 112 rfl) rfl
theorem q1950 : (Jvm.Cond.code ({ cls := "LettersOnStrikeModel", name := "raise", desc := "(II)Z" } : Jvm.MethodName) prog_18_method_84_code (3 : Nat) (Option.some Jvm.ClassFile.FieldType.boolean)) ∈ lw_all := lw_g (lw_at lw_m8 113 rfl) rfl
theorem q1951 : (Jvm.Cond.methodLink "LettersOnStrikeLaw" (70 : Nat) ({ cls := "LettersOnStrikeModel", name := "sign", desc := "(II)Z" } : Jvm.MethodName)) ∈ lw_all := lw_g (lw_at lw_m8 114 rfl) rfl
theorem q1952 : (Jvm.Cond.instanceMethod ({ cls := "LettersOnStrikeModel", name := "sign", desc := "(II)Z" } : Jvm.MethodName)) ∈ lw_all := lw_g (lw_at lw_m8 115 rfl) rfl
theorem q1953 : (Jvm.Cond.selects "LettersOnStrikeModel" ({ cls := "LettersOnStrikeModel", name := "sign", desc := "(II)Z" } : Jvm.MethodName) ({ cls := "LettersOnStrikeModel", name := "sign", desc := "(II)Z" } : Jvm.MethodName)) ∈ lw_all := lw_g (lw_at lw_m8 116 rfl) rfl
theorem q1954 : (Jvm.Cond.code ({ cls := "LettersOnStrikeModel", name := "sign", desc := "(II)Z" } : Jvm.MethodName) prog_18_method_85_code (3 : Nat) (Option.some Jvm.ClassFile.FieldType.boolean)) ∈ lw_all := lw_g (lw_at lw_m8 117 rfl) rfl
theorem q1955 : (Jvm.Cond.methodLink "LettersOnStrikeLaw" (74 : Nat) ({ cls := "LettersOnStrikeModel", name := "contract", desc := "(I)I" } : Jvm.MethodName)) ∈ lw_all := lw_g (lw_at lw_m8 118 rfl) rfl
theorem q1956 : (Jvm.Cond.instanceMethod ({ cls := "LettersOnStrikeModel", name := "contract", desc := "(I)I" } : Jvm.MethodName)) ∈ lw_all := lw_g (lw_at lw_m8 119 rfl) rfl
theorem q1957 : (Jvm.Cond.selects "LettersOnStrikeModel" ({ cls := "LettersOnStrikeModel", name := "contract", desc := "(I)I" } : Jvm.MethodName) ({ cls := "LettersOnStrikeModel", name := "contract", desc := "(I)I" } : Jvm.MethodName)) ∈ lw_all := lw_g (lw_at lw_m8 120 rfl) rfl
theorem q1958 : (Jvm.Cond.code ({ cls := "LettersOnStrikeModel", name := "contract", desc := "(I)I" } : Jvm.MethodName) prog_18_method_89_code (4 : Nat) (Option.some Jvm.ClassFile.FieldType.int)) ∈ lw_all := lw_g (lw_at lw_m8 121 rfl) rfl
theorem q1959 : (Jvm.Cond.methodLink "LettersOnStrikeModel" (366 : Nat) ({ cls := "LettersOnStrikeModel", name := "isSaying", desc := "(I)Z" } : Jvm.MethodName)) ∈ lw_all := lw_g (lw_at lw_m8 122 rfl) rfl
theorem q1960 : (Jvm.Cond.privateMethod ({ cls := "LettersOnStrikeModel", name := "isSaying", desc := "(I)Z" } : Jvm.MethodName)) ∈ lw_tbl := lw_at lw_m8 123 rfl
theorem q1961 : (Jvm.Cond.instanceMethod ({ cls := "LettersOnStrikeModel", name := "isSaying", desc := "(I)Z" } : Jvm.MethodName)) ∈ lw_all := lw_g (lw_at lw_m8 124 rfl) rfl
theorem q1962 : (Jvm.Cond.code ({ cls := "LettersOnStrikeModel", name := "isSaying", desc := "(I)Z" } : Jvm.MethodName) prog_18_method_9_code (2 : Nat) (Option.some Jvm.ClassFile.FieldType.boolean)) ∈ lw_all := lw_g (lw_at lw_m8 125 rfl) rfl
theorem q1963 : (Jvm.Cond.methodLink "LettersOnStrikeModel" (369 : Nat) ({ cls := "LettersOnStrikeModel", name := "canSay", desc := "(IIZ)Z" } : Jvm.MethodName)) ∈ lw_all := lw_g (lw_at lw_m8 126 rfl) rfl
theorem q1964 : (Jvm.Cond.privateMethod ({ cls := "LettersOnStrikeModel", name := "canSay", desc := "(IIZ)Z" } : Jvm.MethodName)) ∈ lw_tbl := lw_at lw_m8 127 rfl
theorem q1965 : (Jvm.Cond.instanceMethod ({ cls := "LettersOnStrikeModel", name := "canSay", desc := "(IIZ)Z" } : Jvm.MethodName)) ∈ lw_all := lw_g (lw_at lw_m8 128 rfl) rfl
theorem q1966 : (Jvm.Cond.code ({ cls := "LettersOnStrikeModel", name := "canSay", desc := "(IIZ)Z" } : Jvm.MethodName) prog_18_method_88_code (5 : Nat) (Option.some Jvm.ClassFile.FieldType.boolean)) ∈ lw_all := lw_g (lw_at lw_m8 129 rfl) rfl
theorem q1967 : (Jvm.Cond.methodLink "LettersOnStrikeModel" (356 : Nat) ({ cls := "LettersOnStrikeModel", name := "sensesOf", desc := "(I)I" } : Jvm.MethodName)) ∈ lw_all := lw_g (lw_at lw_m8 130 rfl) rfl
theorem q1968 : (Jvm.Cond.privateMethod ({ cls := "LettersOnStrikeModel", name := "sensesOf", desc := "(I)I" } : Jvm.MethodName)) ∈ lw_tbl := lw_at lw_m8 131 rfl
theorem q1969 : (Jvm.Cond.instanceMethod ({ cls := "LettersOnStrikeModel", name := "sensesOf", desc := "(I)I" } : Jvm.MethodName)) ∈ lw_all := lw_g (lw_at lw_m8 132 rfl) rfl
theorem q1970 : (Jvm.Cond.code ({ cls := "LettersOnStrikeModel", name := "sensesOf", desc := "(I)I" } : Jvm.MethodName) prog_18_method_23_code (2 : Nat) (Option.some Jvm.ClassFile.FieldType.int)) ∈ lw_all := lw_g (lw_at lw_m8 133 rfl) rfl
theorem q1971 : (Jvm.Cond.methodLink "LettersOnStrikeModel" (359 : Nat) ({ cls := "LettersOnStrikeModel", name := "senseAt", desc := "(II)I" } : Jvm.MethodName)) ∈ lw_all := lw_g (lw_at lw_m8 134 rfl) rfl
theorem q1972 : (Jvm.Cond.privateMethod ({ cls := "LettersOnStrikeModel", name := "senseAt", desc := "(II)I" } : Jvm.MethodName)) ∈ lw_tbl := lw_at lw_m8 135 rfl
theorem q1973 : (Jvm.Cond.instanceMethod ({ cls := "LettersOnStrikeModel", name := "senseAt", desc := "(II)I" } : Jvm.MethodName)) ∈ lw_all := lw_g (lw_at lw_m8 136 rfl) rfl
theorem q1974 : (Jvm.Cond.code ({ cls := "LettersOnStrikeModel", name := "senseAt", desc := "(II)I" } : Jvm.MethodName) prog_18_method_24_code (3 : Nat) (Option.some Jvm.ClassFile.FieldType.int)) ∈ lw_all := lw_g (lw_at lw_m8 137 rfl) rfl
theorem q1975 : (Jvm.Cond.methodLink "LettersOnStrikeModel" (362 : Nat) ({ cls := "LettersOnStrikeModel", name := "wordFor", desc := "(IIZ)I" } : Jvm.MethodName)) ∈ lw_all := lw_g (lw_at lw_m8 138 rfl) rfl
theorem q1976 : (Jvm.Cond.privateMethod ({ cls := "LettersOnStrikeModel", name := "wordFor", desc := "(IIZ)I" } : Jvm.MethodName)) ∈ lw_tbl := lw_at lw_m8 139 rfl
theorem q1977 : (Jvm.Cond.instanceMethod ({ cls := "LettersOnStrikeModel", name := "wordFor", desc := "(IIZ)I" } : Jvm.MethodName)) ∈ lw_all := lw_g (lw_at lw_m8 140 rfl) rfl
theorem q1978 : (Jvm.Cond.code ({ cls := "LettersOnStrikeModel", name := "wordFor", desc := "(IIZ)I" } : Jvm.MethodName) prog_18_method_87_code (7 : Nat) (Option.some Jvm.ClassFile.FieldType.int)) ∈ lw_all := lw_g (lw_at lw_m8 141 rfl) rfl
theorem q1979 : (Jvm.Cond.methodLink "LettersOnStrikeModel" (350 : Nat) ({ cls := "LettersOnStrikeModel", name := "senseOf", desc := "(I)I" } : Jvm.MethodName)) ∈ lw_all := lw_g (lw_at lw_m8 142 rfl) rfl
theorem q1980 : (Jvm.Cond.privateMethod ({ cls := "LettersOnStrikeModel", name := "senseOf", desc := "(I)I" } : Jvm.MethodName)) ∈ lw_tbl := lw_at lw_m8 143 rfl
theorem q1981 : (Jvm.Cond.instanceMethod ({ cls := "LettersOnStrikeModel", name := "senseOf", desc := "(I)I" } : Jvm.MethodName)) ∈ lw_all := lw_g (lw_at lw_m8 144 rfl) rfl
theorem q1982 : (Jvm.Cond.code ({ cls := "LettersOnStrikeModel", name := "senseOf", desc := "(I)I" } : Jvm.MethodName) prog_18_method_13_code (2 : Nat) (Option.some Jvm.ClassFile.FieldType.int)) ∈ lw_all := lw_g (lw_at lw_m8 145 rfl) rfl
theorem q1983 : (Jvm.Cond.methodLink "LettersOnStrikeModel" (353 : Nat) ({ cls := "LettersOnStrikeModel", name := "isWritten", desc := "(I)Z" } : Jvm.MethodName)) ∈ lw_all := lw_g (lw_at lw_m8 146 rfl) rfl
theorem q1984 : (Jvm.Cond.privateMethod ({ cls := "LettersOnStrikeModel", name := "isWritten", desc := "(I)Z" } : Jvm.MethodName)) ∈ lw_tbl := lw_at lw_m8 147 rfl
theorem q1985 : (Jvm.Cond.instanceMethod ({ cls := "LettersOnStrikeModel", name := "isWritten", desc := "(I)Z" } : Jvm.MethodName)) ∈ lw_all := lw_g (lw_at lw_m8 148 rfl) rfl
theorem q1986 : (Jvm.Cond.code ({ cls := "LettersOnStrikeModel", name := "isWritten", desc := "(I)Z" } : Jvm.MethodName) prog_18_method_86_code (3 : Nat) (Option.some Jvm.ClassFile.FieldType.boolean)) ∈ lw_all := lw_g (lw_at lw_m8 149 rfl) rfl
theorem q1987 : (Jvm.Cond.methodLink "LettersOnStrikeLaw" (78 : Nat) ({ cls := "LettersOnStrikeModel", name := "played", desc := "(I)I" } : Jvm.MethodName)) ∈ lw_all := lw_g (lw_at lw_m8 150 rfl) rfl
theorem q1988 : (Jvm.Cond.instanceMethod ({ cls := "LettersOnStrikeModel", name := "played", desc := "(I)I" } : Jvm.MethodName)) ∈ lw_all := lw_g (lw_at lw_m8 151 rfl) rfl
theorem q1989 : (Jvm.Cond.selects "LettersOnStrikeModel" ({ cls := "LettersOnStrikeModel", name := "played", desc := "(I)I" } : Jvm.MethodName) ({ cls := "LettersOnStrikeModel", name := "played", desc := "(I)I" } : Jvm.MethodName)) ∈ lw_all := lw_g (lw_at lw_m8 152 rfl) rfl
theorem q1990 : (Jvm.Cond.code ({ cls := "LettersOnStrikeModel", name := "played", desc := "(I)I" } : Jvm.MethodName) prog_18_method_97_code (3 : Nat) (Option.some Jvm.ClassFile.FieldType.int)) ∈ lw_all := lw_g (lw_at lw_m8 153 rfl) rfl
theorem q1991 : (Jvm.Cond.methodLink "LettersOnStrikeModel" (409 : Nat) ({ cls := "LettersOnStrikeModel", name := "isPlayed", desc := "(I)Z" } : Jvm.MethodName)) ∈ lw_all := lw_g (lw_at lw_m8 154 rfl) rfl
theorem q1992 : (Jvm.Cond.privateMethod ({ cls := "LettersOnStrikeModel", name := "isPlayed", desc := "(I)Z" } : Jvm.MethodName)) ∈ lw_tbl := lw_at lw_m8 155 rfl
theorem q1993 : (Jvm.Cond.instanceMethod ({ cls := "LettersOnStrikeModel", name := "isPlayed", desc := "(I)Z" } : Jvm.MethodName)) ∈ lw_all := lw_g (lw_at lw_m8 156 rfl) rfl
theorem q1994 : (Jvm.Cond.code ({ cls := "LettersOnStrikeModel", name := "isPlayed", desc := "(I)Z" } : Jvm.MethodName) prog_18_method_96_code (4 : Nat) (Option.some Jvm.ClassFile.FieldType.boolean)) ∈ lw_all := lw_g (lw_at lw_m8 157 rfl) rfl
theorem q1995 : (Jvm.Cond.methodLink "LettersOnStrikeModel" (382 : Nat) ({ cls := "LettersOnStrikeModel", name := "isTaught", desc := "(I)Z" } : Jvm.MethodName)) ∈ lw_all := lw_g (lw_at lw_m8 158 rfl) rfl
theorem q1996 : (Jvm.Cond.privateMethod ({ cls := "LettersOnStrikeModel", name := "isTaught", desc := "(I)Z" } : Jvm.MethodName)) ∈ lw_tbl := lw_at lw_m8 159 rfl
theorem q1997 : (Jvm.Cond.instanceMethod ({ cls := "LettersOnStrikeModel", name := "isTaught", desc := "(I)Z" } : Jvm.MethodName)) ∈ lw_all := lw_g (lw_at lw_m8 160 rfl) rfl
theorem q1998 : (Jvm.Cond.code ({ cls := "LettersOnStrikeModel", name := "isTaught", desc := "(I)Z" } : Jvm.MethodName) prog_18_method_94_code (2 : Nat) (Option.some Jvm.ClassFile.FieldType.boolean)) ∈ lw_all := lw_g (lw_at lw_m8 161 rfl) rfl
theorem q1999 : (Jvm.Cond.methodLink "LettersOnStrikeModel" (385 : Nat) ({ cls := "LettersOnStrikeModel", name := "isSpoken", desc := "(I)Z" } : Jvm.MethodName)) ∈ lw_all := lw_g (lw_at lw_m8 162 rfl) rfl
theorem q2000 : (Jvm.Cond.privateMethod ({ cls := "LettersOnStrikeModel", name := "isSpoken", desc := "(I)Z" } : Jvm.MethodName)) ∈ lw_tbl := lw_at lw_m8 163 rfl
theorem q2001 : (Jvm.Cond.instanceMethod ({ cls := "LettersOnStrikeModel", name := "isSpoken", desc := "(I)Z" } : Jvm.MethodName)) ∈ lw_all := lw_g (lw_at lw_m8 164 rfl) rfl
theorem q2002 : (Jvm.Cond.code ({ cls := "LettersOnStrikeModel", name := "isSpoken", desc := "(I)Z" } : Jvm.MethodName) prog_18_method_95_code (3 : Nat) (Option.some Jvm.ClassFile.FieldType.boolean)) ∈ lw_all := lw_g (lw_at lw_m8 165 rfl) rfl
theorem q2003 : (Jvm.Cond.methodLink "LettersOnStrikeModel" (388 : Nat) ({ cls := "LettersOnStrikeModel", name := "areTied", desc := "(II)Z" } : Jvm.MethodName)) ∈ lw_all := lw_g (lw_at lw_m8 166 rfl) rfl
theorem q2004 : (Jvm.Cond.privateMethod ({ cls := "LettersOnStrikeModel", name := "areTied", desc := "(II)Z" } : Jvm.MethodName)) ∈ lw_tbl := lw_at lw_m8 167 rfl
theorem q2005 : (Jvm.Cond.instanceMethod ({ cls := "LettersOnStrikeModel", name := "areTied", desc := "(II)Z" } : Jvm.MethodName)) ∈ lw_all := lw_g (lw_at lw_m8 168 rfl) rfl
theorem q2006 : (Jvm.Cond.code ({ cls := "LettersOnStrikeModel", name := "areTied", desc := "(II)Z" } : Jvm.MethodName) prog_18_method_90_code (6 : Nat) (Option.some Jvm.ClassFile.FieldType.boolean)) ∈ lw_all := lw_g (lw_at lw_m8 169 rfl) rfl
theorem q2007 : (Jvm.Cond.methodLink "LettersOnStrikeModel" (373 : Nat) ({ cls := "LettersOnStrikeModel", name := "tie", desc := "(II)Z" } : Jvm.MethodName)) ∈ lw_all := lw_g (lw_at lw_m8 170 rfl) rfl
theorem q2008 : (Jvm.Cond.methodLink "LettersOnStrikeModel" (391 : Nat) ({ cls := "LettersOnStrikeModel", name := "strike", desc := "(I)I" } : Jvm.MethodName)) ∈ lw_all := lw_g (lw_at lw_m8 171 rfl) rfl
theorem q2009 : (Jvm.Cond.methodLink "LettersOnStrikeModel" (394 : Nat) ({ cls := "LettersOnStrikeModel", name := "comeBack", desc := "(I)I" } : Jvm.MethodName)) ∈ lw_all := lw_g (lw_at lw_m8 172 rfl) rfl
theorem q2010 : (Jvm.Cond.methodLink "LettersOnStrikeModel" (397 : Nat) ({ cls := "LettersOnStrikeModel", name := "areRaised", desc := "(II)Z" } : Jvm.MethodName)) ∈ lw_all := lw_g (lw_at lw_m8 173 rfl) rfl
theorem q2011 : (Jvm.Cond.privateMethod ({ cls := "LettersOnStrikeModel", name := "areRaised", desc := "(II)Z" } : Jvm.MethodName)) ∈ lw_tbl := lw_at lw_m8 174 rfl
theorem q2012 : (Jvm.Cond.instanceMethod ({ cls := "LettersOnStrikeModel", name := "areRaised", desc := "(II)Z" } : Jvm.MethodName)) ∈ lw_all := lw_g (lw_at lw_m8 175 rfl) rfl
theorem q2013 : (Jvm.Cond.code ({ cls := "LettersOnStrikeModel", name := "areRaised", desc := "(II)Z" } : Jvm.MethodName) prog_18_method_91_code (5 : Nat) (Option.some Jvm.ClassFile.FieldType.boolean)) ∈ lw_all := lw_g (lw_at lw_m8 176 rfl) rfl
theorem q2014 : (Jvm.Cond.methodLink "LettersOnStrikeModel" (376 : Nat) ({ cls := "LettersOnStrikeModel", name := "raise", desc := "(II)Z" } : Jvm.MethodName)) ∈ lw_all := lw_g (lw_at lw_m8 177 rfl) rfl
theorem q2015 : (Jvm.Cond.methodLink "LettersOnStrikeModel" (400 : Nat) ({ cls := "LettersOnStrikeModel", name := "areSigned", desc := "(II)Z" } : Jvm.MethodName)) ∈ lw_all := lw_g (lw_at lw_m8 178 rfl) rfl
theorem q2016 : (Jvm.Cond.privateMethod ({ cls := "LettersOnStrikeModel", name := "areSigned", desc := "(II)Z" } : Jvm.MethodName)) ∈ lw_tbl := lw_at lw_m8 179 rfl
theorem q2017 : (Jvm.Cond.instanceMethod ({ cls := "LettersOnStrikeModel", name := "areSigned", desc := "(II)Z" } : Jvm.MethodName)) ∈ lw_all := lw_g (lw_at lw_m8 180 rfl) rfl
theorem q2018 : (Jvm.Cond.code ({ cls := "LettersOnStrikeModel", name := "areSigned", desc := "(II)Z" } : Jvm.MethodName) prog_18_method_92_code (5 : Nat) (Option.some Jvm.ClassFile.FieldType.boolean)) ∈ lw_all := lw_g (lw_at lw_m8 181 rfl) rfl
theorem q2019 : (Jvm.Cond.methodLink "LettersOnStrikeModel" (379 : Nat) ({ cls := "LettersOnStrikeModel", name := "sign", desc := "(II)Z" } : Jvm.MethodName)) ∈ lw_all := lw_g (lw_at lw_m8 182 rfl) rfl
theorem q2020 : (Jvm.Cond.methodLink "LettersOnStrikeModel" (403 : Nat) ({ cls := "LettersOnStrikeModel", name := "contract", desc := "(I)I" } : Jvm.MethodName)) ∈ lw_all := lw_g (lw_at lw_m8 183 rfl) rfl
theorem q2021 : (Jvm.Cond.methodLink "LettersOnStrikeModel" (406 : Nat) ({ cls := "LettersOnStrikeModel", name := "areMornings", desc := "(I)Z" } : Jvm.MethodName)) ∈ lw_all := lw_g (lw_at lw_m8 184 rfl) rfl
theorem q2022 : (Jvm.Cond.privateMethod ({ cls := "LettersOnStrikeModel", name := "areMornings", desc := "(I)Z" } : Jvm.MethodName)) ∈ lw_tbl := lw_at lw_m8 185 rfl
theorem q2023 : (Jvm.Cond.instanceMethod ({ cls := "LettersOnStrikeModel", name := "areMornings", desc := "(I)Z" } : Jvm.MethodName)) ∈ lw_all := lw_g (lw_at lw_m8 186 rfl) rfl
theorem q2024 : (Jvm.Cond.code ({ cls := "LettersOnStrikeModel", name := "areMornings", desc := "(I)Z" } : Jvm.MethodName) prog_18_method_93_code (3 : Nat) (Option.some Jvm.ClassFile.FieldType.boolean)) ∈ lw_all := lw_g (lw_at lw_m8 187 rfl) rfl
theorem q2025 : (Jvm.Cond.methodLink "LettersOnStrikeLaw" (83 : Nat) ({ cls := "LettersOnStrikeModel", name := "year", desc := "(II)I" } : Jvm.MethodName)) ∈ lw_all := lw_g (lw_at lw_m8 188 rfl) rfl
theorem q2026 : (Jvm.Cond.instanceMethod ({ cls := "LettersOnStrikeModel", name := "year", desc := "(II)I" } : Jvm.MethodName)) ∈ lw_all := lw_g (lw_at lw_m8 189 rfl) rfl
theorem q2027 : (Jvm.Cond.selects "LettersOnStrikeModel" ({ cls := "LettersOnStrikeModel", name := "year", desc := "(II)I" } : Jvm.MethodName) ({ cls := "LettersOnStrikeModel", name := "year", desc := "(II)I" } : Jvm.MethodName)) ∈ lw_all := lw_g (lw_at lw_m8 190 rfl) rfl
theorem q2028 : (Jvm.Cond.code ({ cls := "LettersOnStrikeModel", name := "year", desc := "(II)I" } : Jvm.MethodName) prog_18_method_100_code (6 : Nat) (Option.some Jvm.ClassFile.FieldType.int)) ∈ lw_all := lw_g (lw_at lw_m8 191 rfl) rfl
theorem q2029 : (Jvm.Cond.methodLink "LettersOnStrikeModel" (412 : Nat) ({ cls := "LettersOnStrikeModel", name := "anew", desc := "(I)I" } : Jvm.MethodName)) ∈ lw_all := lw_g (lw_at lw_m8 192 rfl) rfl
theorem q2030 : (Jvm.Cond.static ({ cls := "LettersOnStrikeModel", name := "anew", desc := "(I)I" } : Jvm.MethodName)) ∈ lw_all := lw_g (lw_at lw_m8 193 rfl) rfl
theorem q2031 : (Jvm.Cond.code ({ cls := "LettersOnStrikeModel", name := "anew", desc := "(I)I" } : Jvm.MethodName) prog_18_method_98_code (1 : Nat) (Option.some Jvm.ClassFile.FieldType.int)) ∈ lw_all := lw_g (lw_at lw_m8 194 rfl) rfl
theorem q2032 : (Jvm.Cond.methodLink "LettersOnStrikeModel" (415 : Nat) ({ cls := "LettersOnStrikeModel", name := "happens", desc := "(II)V" } : Jvm.MethodName)) ∈ lw_all := lw_g (lw_at lw_m8 195 rfl) rfl
theorem q2033 : (Jvm.Cond.privateMethod ({ cls := "LettersOnStrikeModel", name := "happens", desc := "(II)V" } : Jvm.MethodName)) ∈ lw_tbl := lw_at lw_m8 196 rfl
theorem q2034 : (Jvm.Cond.instanceMethod ({ cls := "LettersOnStrikeModel", name := "happens", desc := "(II)V" } : Jvm.MethodName)) ∈ lw_all := lw_g (lw_at lw_m8 197 rfl) rfl
theorem q2035 : (Jvm.Cond.code ({ cls := "LettersOnStrikeModel", name := "happens", desc := "(II)V" } : Jvm.MethodName) prog_18_method_99_code (3 : Nat) (Option.none : Option Jvm.ClassFile.FieldType)) ∈ lw_all := lw_g (lw_at lw_m8 198 rfl) rfl
theorem q2036 : (Jvm.Cond.methodLink "LettersOnStrikeLaw" (91 : Nat) ({ cls := "LettersOnStrikeModel", name := "of", desc := "(II)I" } : Jvm.MethodName)) ∈ lw_all := lw_g (lw_at lw_m8 199 rfl) rfl
theorem q2037 : (Jvm.Cond.instanceMethod ({ cls := "LettersOnStrikeModel", name := "of", desc := "(II)I" } : Jvm.MethodName)) ∈ lw_all := lw_g (lw_at lw_m8 200 rfl) rfl
theorem q2038 : (Jvm.Cond.selects "LettersOnStrikeModel" ({ cls := "LettersOnStrikeModel", name := "of", desc := "(II)I" } : Jvm.MethodName) ({ cls := "LettersOnStrikeModel", name := "of", desc := "(II)I" } : Jvm.MethodName)) ∈ lw_all := lw_g (lw_at lw_m8 201 rfl) rfl
theorem q2039 : (Jvm.Cond.code ({ cls := "LettersOnStrikeModel", name := "of", desc := "(II)I" } : Jvm.MethodName) prog_18_method_101_code (3 : Nat) (Option.some Jvm.ClassFile.FieldType.int)) ∈ lw_all := lw_g (lw_at lw_m8 202 rfl) rfl
theorem q2040 : (Jvm.Cond.methodLink "LettersOnStrikeLaw" (95 : Nat) ({ cls := "LettersOnStrikeModel", name := "ofWord", desc := "(II)I" } : Jvm.MethodName)) ∈ lw_all := lw_g (lw_at lw_m8 203 rfl) rfl
theorem q2041 : (Jvm.Cond.instanceMethod ({ cls := "LettersOnStrikeModel", name := "ofWord", desc := "(II)I" } : Jvm.MethodName)) ∈ lw_all := lw_g (lw_at lw_m8 204 rfl) rfl
theorem q2042 : (Jvm.Cond.selects "LettersOnStrikeModel" ({ cls := "LettersOnStrikeModel", name := "ofWord", desc := "(II)I" } : Jvm.MethodName) ({ cls := "LettersOnStrikeModel", name := "ofWord", desc := "(II)I" } : Jvm.MethodName)) ∈ lw_all := lw_g (lw_at lw_m8 205 rfl) rfl
theorem q2043 : (Jvm.Cond.code ({ cls := "LettersOnStrikeModel", name := "ofWord", desc := "(II)I" } : Jvm.MethodName) prog_18_method_102_code (3 : Nat) (Option.some Jvm.ClassFile.FieldType.int)) ∈ lw_all := lw_g (lw_at lw_m8 206 rfl) rfl
theorem q2044 : (Jvm.Cond.methodLink "LettersOnStrikeModel" (418 : Nat) ({ cls := "LettersOnStrikeModel", name := "isWord0", desc := "(I)Z" } : Jvm.MethodName)) ∈ lw_all := lw_g (lw_at lw_m8 207 rfl) rfl
theorem q2045 : (Jvm.Cond.privateMethod ({ cls := "LettersOnStrikeModel", name := "isWord0", desc := "(I)Z" } : Jvm.MethodName)) ∈ lw_tbl := lw_at lw_m8 208 rfl
theorem q2046 : (Jvm.Cond.instanceMethod ({ cls := "LettersOnStrikeModel", name := "isWord0", desc := "(I)Z" } : Jvm.MethodName)) ∈ lw_all := lw_g (lw_at lw_m8 209 rfl) rfl
theorem q2047 : (Jvm.Cond.code ({ cls := "LettersOnStrikeModel", name := "isWord0", desc := "(I)Z" } : Jvm.MethodName) prog_18_method_8_code (2 : Nat) (Option.some Jvm.ClassFile.FieldType.boolean)) ∈ lw_all := lw_g (lw_at lw_m8 210 rfl) rfl
theorem q2048 : (Jvm.Cond.methodLink "LettersOnStrikeLaw" (99 : Nat) ({ cls := "LettersOnStrikeModel", name := "ofSaying", desc := "(II)I" } : Jvm.MethodName)) ∈ lw_all := lw_g (lw_at lw_m8 211 rfl) rfl
theorem q2049 : (Jvm.Cond.instanceMethod ({ cls := "LettersOnStrikeModel", name := "ofSaying", desc := "(II)I" } : Jvm.MethodName)) ∈ lw_all := lw_g (lw_at lw_m8 212 rfl) rfl
theorem q2050 : (Jvm.Cond.selects "LettersOnStrikeModel" ({ cls := "LettersOnStrikeModel", name := "ofSaying", desc := "(II)I" } : Jvm.MethodName) ({ cls := "LettersOnStrikeModel", name := "ofSaying", desc := "(II)I" } : Jvm.MethodName)) ∈ lw_all := lw_g (lw_at lw_m8 213 rfl) rfl
theorem q2051 : (Jvm.Cond.code ({ cls := "LettersOnStrikeModel", name := "ofSaying", desc := "(II)I" } : Jvm.MethodName) prog_18_method_103_code (3 : Nat) (Option.some Jvm.ClassFile.FieldType.int)) ∈ lw_all := lw_g (lw_at lw_m8 214 rfl) rfl
theorem q2052 : (Jvm.Cond.methodLink "LettersOnStrikeLaw" (103 : Nat) ({ cls := "LettersOnStrikeModel", name := "mistaken", desc := "(II)Z" } : Jvm.MethodName)) ∈ lw_all := lw_g (lw_at lw_m8 215 rfl) rfl
theorem q2053 : (Jvm.Cond.instanceMethod ({ cls := "LettersOnStrikeModel", name := "mistaken", desc := "(II)Z" } : Jvm.MethodName)) ∈ lw_all := lw_g (lw_at lw_m8 216 rfl) rfl
theorem q2054 : (Jvm.Cond.selects "LettersOnStrikeModel" ({ cls := "LettersOnStrikeModel", name := "mistaken", desc := "(II)Z" } : Jvm.MethodName) ({ cls := "LettersOnStrikeModel", name := "mistaken", desc := "(II)Z" } : Jvm.MethodName)) ∈ lw_all := lw_g (lw_at lw_m8 217 rfl) rfl
theorem q2055 : (Jvm.Cond.code ({ cls := "LettersOnStrikeModel", name := "mistaken", desc := "(II)Z" } : Jvm.MethodName) prog_18_method_105_code (4 : Nat) (Option.some Jvm.ClassFile.FieldType.boolean)) ∈ lw_all := lw_g (lw_at lw_m8 218 rfl) rfl
theorem q2056 : (Jvm.Cond.methodLink "LettersOnStrikeModel" (421 : Nat) ({ cls := "LettersOnStrikeModel", name := "written", desc := "(I)I" } : Jvm.MethodName)) ∈ lw_all := lw_g (lw_at lw_m8 219 rfl) rfl
theorem q2057 : (Jvm.Cond.privateMethod ({ cls := "LettersOnStrikeModel", name := "written", desc := "(I)I" } : Jvm.MethodName)) ∈ lw_tbl := lw_at lw_m8 220 rfl
theorem q2058 : (Jvm.Cond.instanceMethod ({ cls := "LettersOnStrikeModel", name := "written", desc := "(I)I" } : Jvm.MethodName)) ∈ lw_all := lw_g (lw_at lw_m8 221 rfl) rfl
theorem q2059 : (Jvm.Cond.code ({ cls := "LettersOnStrikeModel", name := "written", desc := "(I)I" } : Jvm.MethodName) prog_18_method_104_code (2 : Nat) (Option.some Jvm.ClassFile.FieldType.int)) ∈ lw_all := lw_g (lw_at lw_m8 222 rfl) rfl
theorem q2060 : (Jvm.Cond.methodLink "LettersOnStrikeLaw" (107 : Nat) ({ cls := "LettersOnStrikeModel", name := "said", desc := "(III)I" } : Jvm.MethodName)) ∈ lw_all := lw_g (lw_at lw_m8 223 rfl) rfl
theorem q2061 : (Jvm.Cond.instanceMethod ({ cls := "LettersOnStrikeModel", name := "said", desc := "(III)I" } : Jvm.MethodName)) ∈ lw_all := lw_g (lw_at lw_m8 224 rfl) rfl
theorem q2062 : (Jvm.Cond.selects "LettersOnStrikeModel" ({ cls := "LettersOnStrikeModel", name := "said", desc := "(III)I" } : Jvm.MethodName) ({ cls := "LettersOnStrikeModel", name := "said", desc := "(III)I" } : Jvm.MethodName)) ∈ lw_all := lw_g (lw_at lw_m8 225 rfl) rfl
theorem q2063 : (Jvm.Cond.code ({ cls := "LettersOnStrikeModel", name := "said", desc := "(III)I" } : Jvm.MethodName) prog_18_method_106_code (6 : Nat) (Option.some Jvm.ClassFile.FieldType.int)) ∈ lw_all := lw_g (lw_at lw_m8 226 rfl) rfl
theorem q2064 : (Jvm.Cond.methodLink "LettersOnStrikeLaw" (111 : Nat) ({ cls := "LettersOnStrikeModel", name := "dear", desc := "(I)I" } : Jvm.MethodName)) ∈ lw_all := lw_g (lw_at lw_m8 227 rfl) rfl
theorem q2065 : (Jvm.Cond.instanceMethod ({ cls := "LettersOnStrikeModel", name := "dear", desc := "(I)I" } : Jvm.MethodName)) ∈ lw_all := lw_g (lw_at lw_m8 228 rfl) rfl
theorem q2066 : (Jvm.Cond.selects "LettersOnStrikeModel" ({ cls := "LettersOnStrikeModel", name := "dear", desc := "(I)I" } : Jvm.MethodName) ({ cls := "LettersOnStrikeModel", name := "dear", desc := "(I)I" } : Jvm.MethodName)) ∈ lw_all := lw_g (lw_at lw_m8 229 rfl) rfl
theorem q2067 : (Jvm.Cond.code ({ cls := "LettersOnStrikeModel", name := "dear", desc := "(I)I" } : Jvm.MethodName) prog_18_method_108_code (4 : Nat) (Option.some Jvm.ClassFile.FieldType.int)) ∈ lw_all := lw_g (lw_at lw_m8 230 rfl) rfl
theorem q2068 : (Jvm.Cond.methodLink "LettersOnStrikeModel" (425 : Nat) ({ cls := "LettersOnStrikeModel", name := "priceOf", desc := "(I)I" } : Jvm.MethodName)) ∈ lw_all := lw_g (lw_at lw_m8 231 rfl) rfl
theorem q2069 : (Jvm.Cond.privateMethod ({ cls := "LettersOnStrikeModel", name := "priceOf", desc := "(I)I" } : Jvm.MethodName)) ∈ lw_tbl := lw_at lw_m8 232 rfl
theorem q2070 : (Jvm.Cond.instanceMethod ({ cls := "LettersOnStrikeModel", name := "priceOf", desc := "(I)I" } : Jvm.MethodName)) ∈ lw_all := lw_g (lw_at lw_m8 233 rfl) rfl
theorem q2071 : (Jvm.Cond.code ({ cls := "LettersOnStrikeModel", name := "priceOf", desc := "(I)I" } : Jvm.MethodName) prog_18_method_107_code (5 : Nat) (Option.some Jvm.ClassFile.FieldType.int)) ∈ lw_all := lw_g (lw_at lw_m8 234 rfl) rfl
theorem q2072 : (Jvm.Cond.constantLong "LettersOnStrikeModel" (423 : Nat) (999 : Int64)) ∈ lw_all := lw_g (lw_at lw_m8 235 rfl) rfl
theorem q2073 : (Jvm.Cond.methodLink "LettersOnStrikeLaw" (115 : Nat) ({ cls := "LettersOnStrikeModel", name := "stop", desc := "(I)I" } : Jvm.MethodName)) ∈ lw_all := lw_g (lw_at lw_m8 236 rfl) rfl
theorem q2074 : (Jvm.Cond.instanceMethod ({ cls := "LettersOnStrikeModel", name := "stop", desc := "(I)I" } : Jvm.MethodName)) ∈ lw_all := lw_g (lw_at lw_m8 237 rfl) rfl
theorem q2075 : (Jvm.Cond.selects "LettersOnStrikeModel" ({ cls := "LettersOnStrikeModel", name := "stop", desc := "(I)I" } : Jvm.MethodName) ({ cls := "LettersOnStrikeModel", name := "stop", desc := "(I)I" } : Jvm.MethodName)) ∈ lw_all := lw_g (lw_at lw_m8 238 rfl) rfl
theorem q2076 : (Jvm.Cond.code ({ cls := "LettersOnStrikeModel", name := "stop", desc := "(I)I" } : Jvm.MethodName) prog_18_method_112_code (4 : Nat) (Option.some Jvm.ClassFile.FieldType.int)) ∈ lw_all := lw_g (lw_at lw_m8 239 rfl) rfl
theorem q2077 : (Jvm.Cond.methodLink "LettersOnStrikeModel" (428 : Nat) ({ cls := "LettersOnStrikeModel", name := "firstRow", desc := "(I)V" } : Jvm.MethodName)) ∈ lw_all := lw_g (lw_at lw_m9 0 rfl) rfl
theorem q2078 : (Jvm.Cond.privateMethod ({ cls := "LettersOnStrikeModel", name := "firstRow", desc := "(I)V" } : Jvm.MethodName)) ∈ lw_tbl := lw_at lw_m9 1 rfl
theorem q2079 : (Jvm.Cond.instanceMethod ({ cls := "LettersOnStrikeModel", name := "firstRow", desc := "(I)V" } : Jvm.MethodName)) ∈ lw_all := lw_g (lw_at lw_m9 2 rfl) rfl
theorem q2080 : (Jvm.Cond.code ({ cls := "LettersOnStrikeModel", name := "firstRow", desc := "(I)V" } : Jvm.MethodName) prog_18_method_109_code (3 : Nat) (Option.none : Option Jvm.ClassFile.FieldType)) ∈ lw_all := lw_g (lw_at lw_m9 3 rfl) rfl
theorem q2081 : (Jvm.Cond.methodLink "LettersOnStrikeModel" (431 : Nat) ({ cls := "LettersOnStrikeModel", name := "setOfRow", desc := "(I)I" } : Jvm.MethodName)) ∈ lw_all := lw_g (lw_at lw_m9 4 rfl) rfl
theorem q2082 : (Jvm.Cond.privateMethod ({ cls := "LettersOnStrikeModel", name := "setOfRow", desc := "(I)I" } : Jvm.MethodName)) ∈ lw_tbl := lw_at lw_m9 5 rfl
theorem q2083 : (Jvm.Cond.instanceMethod ({ cls := "LettersOnStrikeModel", name := "setOfRow", desc := "(I)I" } : Jvm.MethodName)) ∈ lw_all := lw_g (lw_at lw_m9 6 rfl) rfl
theorem q2084 : (Jvm.Cond.code ({ cls := "LettersOnStrikeModel", name := "setOfRow", desc := "(I)I" } : Jvm.MethodName) prog_18_method_111_code (4 : Nat) (Option.some Jvm.ClassFile.FieldType.int)) ∈ lw_all := lw_g (lw_at lw_m9 7 rfl) rfl
theorem q2085 : (Jvm.Cond.methodLink "LettersOnStrikeModel" (434 : Nat) ({ cls := "LettersOnStrikeModel", name := "nextRow", desc := "(II)Z" } : Jvm.MethodName)) ∈ lw_all := lw_g (lw_at lw_m9 8 rfl) rfl
theorem q2086 : (Jvm.Cond.privateMethod ({ cls := "LettersOnStrikeModel", name := "nextRow", desc := "(II)Z" } : Jvm.MethodName)) ∈ lw_tbl := lw_at lw_m9 9 rfl
theorem q2087 : (Jvm.Cond.instanceMethod ({ cls := "LettersOnStrikeModel", name := "nextRow", desc := "(II)Z" } : Jvm.MethodName)) ∈ lw_all := lw_g (lw_at lw_m9 10 rfl) rfl
theorem q2088 : (Jvm.Cond.code ({ cls := "LettersOnStrikeModel", name := "nextRow", desc := "(II)Z" } : Jvm.MethodName) prog_18_method_110_code (5 : Nat) (Option.some Jvm.ClassFile.FieldType.boolean)) ∈ lw_all := lw_g (lw_at lw_m9 11 rfl) rfl
theorem q2089 : (Jvm.Cond.methodLink "LettersOnStrikeLaw" (120 : Nat) ({ cls := "LettersOnStrikeModel", name := "spared", desc := "(Z)I" } : Jvm.MethodName)) ∈ lw_all := lw_g (lw_at lw_m9 12 rfl) rfl
theorem q2090 : (Jvm.Cond.instanceMethod ({ cls := "LettersOnStrikeModel", name := "spared", desc := "(Z)I" } : Jvm.MethodName)) ∈ lw_all := lw_g (lw_at lw_m9 13 rfl) rfl
theorem q2091 : (Jvm.Cond.selects "LettersOnStrikeModel" ({ cls := "LettersOnStrikeModel", name := "spared", desc := "(Z)I" } : Jvm.MethodName) ({ cls := "LettersOnStrikeModel", name := "spared", desc := "(Z)I" } : Jvm.MethodName)) ∈ lw_all := lw_g (lw_at lw_m9 14 rfl) rfl
theorem q2092 : (Jvm.Cond.code ({ cls := "LettersOnStrikeModel", name := "spared", desc := "(Z)I" } : Jvm.MethodName) prog_18_method_114_code (4 : Nat) (Option.some Jvm.ClassFile.FieldType.int)) ∈ lw_all := lw_g (lw_at lw_m9 15 rfl) rfl
theorem q2093 : (Jvm.Cond.methodLink "LettersOnStrikeModel" (437 : Nat) ({ cls := "LettersOnStrikeModel", name := "silenced", desc := "(I)I" } : Jvm.MethodName)) ∈ lw_all := lw_g (lw_at lw_m9 16 rfl) rfl
theorem q2094 : (Jvm.Cond.privateMethod ({ cls := "LettersOnStrikeModel", name := "silenced", desc := "(I)I" } : Jvm.MethodName)) ∈ lw_tbl := lw_at lw_m9 17 rfl
theorem q2095 : (Jvm.Cond.instanceMethod ({ cls := "LettersOnStrikeModel", name := "silenced", desc := "(I)I" } : Jvm.MethodName)) ∈ lw_all := lw_g (lw_at lw_m9 18 rfl) rfl
theorem q2096 : (Jvm.Cond.code ({ cls := "LettersOnStrikeModel", name := "silenced", desc := "(I)I" } : Jvm.MethodName) prog_18_method_113_code (4 : Nat) (Option.some Jvm.ClassFile.FieldType.int)) ∈ lw_all := lw_g (lw_at lw_m9 19 rfl) rfl
theorem q2097 : (Jvm.Cond.methodLink "LettersOnStrikeLaw" (125 : Nat) ({ cls := "LettersOnStrikeModel", name := "power", desc := "(IIIZ)I" } : Jvm.MethodName)) ∈ lw_all := lw_g (lw_at lw_m9 20 rfl) rfl
theorem q2098 : (Jvm.Cond.instanceMethod ({ cls := "LettersOnStrikeModel", name := "power", desc := "(IIIZ)I" } : Jvm.MethodName)) ∈ lw_all := lw_g (lw_at lw_m9 21 rfl) rfl
theorem q2099 : (Jvm.Cond.selects "LettersOnStrikeModel" ({ cls := "LettersOnStrikeModel", name := "power", desc := "(IIIZ)I" } : Jvm.MethodName) ({ cls := "LettersOnStrikeModel", name := "power", desc := "(IIIZ)I" } : Jvm.MethodName)) ∈ lw_all := lw_g (lw_at lw_m9 22 rfl) rfl
theorem q2100 : (Jvm.Cond.code ({ cls := "LettersOnStrikeModel", name := "power", desc := "(IIIZ)I" } : Jvm.MethodName) prog_18_method_118_code (10 : Nat) (Option.some Jvm.ClassFile.FieldType.int)) ∈ lw_all := lw_g (lw_at lw_m9 23 rfl) rfl
theorem q2101 : (Jvm.Cond.methodLink "LettersOnStrikeModel" (443 : Nat) ({ cls := "LettersOnStrikeModel", name := "layGroup", desc := "(II)Z" } : Jvm.MethodName)) ∈ lw_all := lw_g (lw_at lw_m9 24 rfl) rfl
theorem q2102 : (Jvm.Cond.privateMethod ({ cls := "LettersOnStrikeModel", name := "layGroup", desc := "(II)Z" } : Jvm.MethodName)) ∈ lw_tbl := lw_at lw_m9 25 rfl
theorem q2103 : (Jvm.Cond.instanceMethod ({ cls := "LettersOnStrikeModel", name := "layGroup", desc := "(II)Z" } : Jvm.MethodName)) ∈ lw_all := lw_g (lw_at lw_m9 26 rfl) rfl
theorem q2104 : (Jvm.Cond.code ({ cls := "LettersOnStrikeModel", name := "layGroup", desc := "(II)Z" } : Jvm.MethodName) prog_18_method_115_code (6 : Nat) (Option.some Jvm.ClassFile.FieldType.boolean)) ∈ lw_all := lw_g (lw_at lw_m9 27 rfl) rfl
theorem q2105 : (Jvm.Cond.methodLink "LettersOnStrikeModel" (446 : Nat) ({ cls := "LettersOnStrikeModel", name := "factorial", desc := "(I)J" } : Jvm.MethodName)) ∈ lw_all := lw_g (lw_at lw_m9 28 rfl) rfl
theorem q2106 : (Jvm.Cond.static ({ cls := "LettersOnStrikeModel", name := "factorial", desc := "(I)J" } : Jvm.MethodName)) ∈ lw_all := lw_g (lw_at lw_m9 29 rfl) rfl
theorem q2107 : (Jvm.Cond.code ({ cls := "LettersOnStrikeModel", name := "factorial", desc := "(I)J" } : Jvm.MethodName) prog_18_method_116_code (4 : Nat) (Option.some Jvm.ClassFile.FieldType.long)) ∈ lw_all := lw_g (lw_at lw_m9 30 rfl) rfl
theorem q2108 : (Jvm.Cond.methodLink "LettersOnStrikeModel" (450 : Nat) ({ cls := "LettersOnStrikeModel", name := "common", desc := "(JJ)J" } : Jvm.MethodName)) ∈ lw_all := lw_g (lw_at lw_m9 31 rfl) rfl
theorem q2109 : (Jvm.Cond.static ({ cls := "LettersOnStrikeModel", name := "common", desc := "(JJ)J" } : Jvm.MethodName)) ∈ lw_all := lw_g (lw_at lw_m9 32 rfl) rfl
theorem q2110 : (Jvm.Cond.code ({ cls := "LettersOnStrikeModel", name := "common", desc := "(JJ)J" } : Jvm.MethodName) prog_18_method_117_code (10 : Nat) (Option.some Jvm.ClassFile.FieldType.long)) ∈ lw_all := lw_g (lw_at lw_m9 33 rfl) rfl
theorem q2111 : (Jvm.Cond.methodLink "LettersOnStrikeLaw" (129 : Nat) ({ cls := "LettersOnStrikeModel", name := "party", desc := "(I)I" } : Jvm.MethodName)) ∈ lw_all := lw_g (lw_at lw_m9 34 rfl) rfl
theorem q2112 : (Jvm.Cond.instanceMethod ({ cls := "LettersOnStrikeModel", name := "party", desc := "(I)I" } : Jvm.MethodName)) ∈ lw_all := lw_g (lw_at lw_m9 35 rfl) rfl
theorem q2113 : (Jvm.Cond.selects "LettersOnStrikeModel" ({ cls := "LettersOnStrikeModel", name := "party", desc := "(I)I" } : Jvm.MethodName) ({ cls := "LettersOnStrikeModel", name := "party", desc := "(I)I" } : Jvm.MethodName)) ∈ lw_all := lw_g (lw_at lw_m9 36 rfl) rfl
theorem q2114 : (Jvm.Cond.code ({ cls := "LettersOnStrikeModel", name := "party", desc := "(I)I" } : Jvm.MethodName) prog_18_method_119_code (2 : Nat) (Option.some Jvm.ClassFile.FieldType.int)) ∈ lw_all := lw_g (lw_at lw_m9 37 rfl) rfl
theorem q2115 : (Jvm.Cond.methodLink "LettersOnStrikeLaw" (133 : Nat) ({ cls := "LettersOnStrikeModel", name := "worth", desc := "(I)I" } : Jvm.MethodName)) ∈ lw_all := lw_g (lw_at lw_m9 38 rfl) rfl
theorem q2116 : (Jvm.Cond.instanceMethod ({ cls := "LettersOnStrikeModel", name := "worth", desc := "(I)I" } : Jvm.MethodName)) ∈ lw_all := lw_g (lw_at lw_m9 39 rfl) rfl
theorem q2117 : (Jvm.Cond.selects "LettersOnStrikeModel" ({ cls := "LettersOnStrikeModel", name := "worth", desc := "(I)I" } : Jvm.MethodName) ({ cls := "LettersOnStrikeModel", name := "worth", desc := "(I)I" } : Jvm.MethodName)) ∈ lw_all := lw_g (lw_at lw_m9 40 rfl) rfl
theorem q2118 : (Jvm.Cond.code ({ cls := "LettersOnStrikeModel", name := "worth", desc := "(I)I" } : Jvm.MethodName) prog_18_method_121_code (2 : Nat) (Option.some Jvm.ClassFile.FieldType.int)) ∈ lw_all := lw_g (lw_at lw_m9 41 rfl) rfl
theorem q2119 : (Jvm.Cond.methodLink "LettersOnStrikeModel" (454 : Nat) ({ cls := "LettersOnStrikeModel", name := "worthOf", desc := "(I)I" } : Jvm.MethodName)) ∈ lw_all := lw_g (lw_at lw_m9 42 rfl) rfl
theorem q2120 : (Jvm.Cond.privateMethod ({ cls := "LettersOnStrikeModel", name := "worthOf", desc := "(I)I" } : Jvm.MethodName)) ∈ lw_tbl := lw_at lw_m9 43 rfl
theorem q2121 : (Jvm.Cond.instanceMethod ({ cls := "LettersOnStrikeModel", name := "worthOf", desc := "(I)I" } : Jvm.MethodName)) ∈ lw_all := lw_g (lw_at lw_m9 44 rfl) rfl
theorem q2122 : (Jvm.Cond.code ({ cls := "LettersOnStrikeModel", name := "worthOf", desc := "(I)I" } : Jvm.MethodName) prog_18_method_120_code (4 : Nat) (Option.some Jvm.ClassFile.FieldType.int)) ∈ lw_all := lw_g (lw_at lw_m9 45 rfl) rfl
theorem q2123 : (Jvm.Cond.methodLink "LettersOnStrikeLaw" (137 : Nat) ({ cls := "LettersOnStrikeModel", name := "core", desc := "(II)I" } : Jvm.MethodName)) ∈ lw_all := lw_g (lw_at lw_m9 46 rfl) rfl
theorem q2124 : (Jvm.Cond.instanceMethod ({ cls := "LettersOnStrikeModel", name := "core", desc := "(II)I" } : Jvm.MethodName)) ∈ lw_all := lw_g (lw_at lw_m9 47 rfl) rfl
theorem q2125 : (Jvm.Cond.selects "LettersOnStrikeModel" ({ cls := "LettersOnStrikeModel", name := "core", desc := "(II)I" } : Jvm.MethodName) ({ cls := "LettersOnStrikeModel", name := "core", desc := "(II)I" } : Jvm.MethodName)) ∈ lw_all := lw_g (lw_at lw_m9 48 rfl) rfl
theorem q2126 : (Jvm.Cond.code ({ cls := "LettersOnStrikeModel", name := "core", desc := "(II)I" } : Jvm.MethodName) prog_18_method_124_code (4 : Nat) (Option.some Jvm.ClassFile.FieldType.int)) ∈ lw_all := lw_g (lw_at lw_m9 49 rfl) rfl
theorem q2127 : (Jvm.Cond.methodLink "LettersOnStrikeModel" (457 : Nat) ({ cls := "LettersOnStrikeModel", name := "areContent", desc := "()Z" } : Jvm.MethodName)) ∈ lw_all := lw_g (lw_at lw_m9 50 rfl) rfl
theorem q2128 : (Jvm.Cond.privateMethod ({ cls := "LettersOnStrikeModel", name := "areContent", desc := "()Z" } : Jvm.MethodName)) ∈ lw_tbl := lw_at lw_m9 51 rfl
theorem q2129 : (Jvm.Cond.instanceMethod ({ cls := "LettersOnStrikeModel", name := "areContent", desc := "()Z" } : Jvm.MethodName)) ∈ lw_all := lw_g (lw_at lw_m9 52 rfl) rfl
theorem q2130 : (Jvm.Cond.code ({ cls := "LettersOnStrikeModel", name := "areContent", desc := "()Z" } : Jvm.MethodName) prog_18_method_122_code (4 : Nat) (Option.some Jvm.ClassFile.FieldType.boolean)) ∈ lw_all := lw_g (lw_at lw_m9 53 rfl) rfl
theorem q2131 : (Jvm.Cond.methodLink "LettersOnStrikeModel" (460 : Nat) ({ cls := "LettersOnStrikeModel", name := "nextShares", desc := "(I)Z" } : Jvm.MethodName)) ∈ lw_all := lw_g (lw_at lw_m9 54 rfl) rfl
theorem q2132 : (Jvm.Cond.privateMethod ({ cls := "LettersOnStrikeModel", name := "nextShares", desc := "(I)Z" } : Jvm.MethodName)) ∈ lw_tbl := lw_at lw_m9 55 rfl
theorem q2133 : (Jvm.Cond.instanceMethod ({ cls := "LettersOnStrikeModel", name := "nextShares", desc := "(I)Z" } : Jvm.MethodName)) ∈ lw_all := lw_g (lw_at lw_m9 56 rfl) rfl
theorem q2134 : (Jvm.Cond.code ({ cls := "LettersOnStrikeModel", name := "nextShares", desc := "(I)Z" } : Jvm.MethodName) prog_18_method_123_code (6 : Nat) (Option.some Jvm.ClassFile.FieldType.boolean)) ∈ lw_all := lw_g (lw_at lw_m9 57 rfl) rfl
theorem q2135 : (Jvm.Cond.methodLink "LettersOnStrikeLaw" (142 : Nat) ({ cls := "LettersOnStrikeModel", name := "game", desc := "(IIZ)I" } : Jvm.MethodName)) ∈ lw_all := lw_g (lw_at lw_m9 58 rfl) rfl
theorem q2136 : (Jvm.Cond.instanceMethod ({ cls := "LettersOnStrikeModel", name := "game", desc := "(IIZ)I" } : Jvm.MethodName)) ∈ lw_all := lw_g (lw_at lw_m9 59 rfl) rfl
theorem q2137 : (Jvm.Cond.selects "LettersOnStrikeModel" ({ cls := "LettersOnStrikeModel", name := "game", desc := "(IIZ)I" } : Jvm.MethodName) ({ cls := "LettersOnStrikeModel", name := "game", desc := "(IIZ)I" } : Jvm.MethodName)) ∈ lw_all := lw_g (lw_at lw_m9 60 rfl) rfl
theorem q2138 : (Jvm.Cond.code ({ cls := "LettersOnStrikeModel", name := "game", desc := "(IIZ)I" } : Jvm.MethodName) prog_18_method_126_code (7 : Nat) (Option.some Jvm.ClassFile.FieldType.int)) ∈ lw_all := lw_g (lw_at lw_m9 61 rfl) rfl
theorem q2139 : (Jvm.Cond.methodLink "LettersOnStrikeModel" (463 : Nat) ({ cls := "LettersOnStrikeModel", name := "isGood", desc := "(II)Z" } : Jvm.MethodName)) ∈ lw_all := lw_g (lw_at lw_m9 62 rfl) rfl
theorem q2140 : (Jvm.Cond.privateMethod ({ cls := "LettersOnStrikeModel", name := "isGood", desc := "(II)Z" } : Jvm.MethodName)) ∈ lw_tbl := lw_at lw_m9 63 rfl
theorem q2141 : (Jvm.Cond.instanceMethod ({ cls := "LettersOnStrikeModel", name := "isGood", desc := "(II)Z" } : Jvm.MethodName)) ∈ lw_all := lw_g (lw_at lw_m9 64 rfl) rfl
theorem q2142 : (Jvm.Cond.code ({ cls := "LettersOnStrikeModel", name := "isGood", desc := "(II)Z" } : Jvm.MethodName) prog_18_method_125_code (3 : Nat) (Option.some Jvm.ClassFile.FieldType.boolean)) ∈ lw_all := lw_g (lw_at lw_m9 65 rfl) rfl
theorem q2143 : (Jvm.Cond.methodLink "LettersOnStrikeLaw" (146 : Nat) ({ cls := "LettersOnStrikeModel", name := "signsFor", desc := "(II)I" } : Jvm.MethodName)) ∈ lw_all := lw_g (lw_at lw_m9 66 rfl) rfl
theorem q2144 : (Jvm.Cond.instanceMethod ({ cls := "LettersOnStrikeModel", name := "signsFor", desc := "(II)I" } : Jvm.MethodName)) ∈ lw_all := lw_g (lw_at lw_m9 67 rfl) rfl
theorem q2145 : (Jvm.Cond.selects "LettersOnStrikeModel" ({ cls := "LettersOnStrikeModel", name := "signsFor", desc := "(II)I" } : Jvm.MethodName) ({ cls := "LettersOnStrikeModel", name := "signsFor", desc := "(II)I" } : Jvm.MethodName)) ∈ lw_all := lw_g (lw_at lw_m9 68 rfl) rfl
theorem q2146 : (Jvm.Cond.code ({ cls := "LettersOnStrikeModel", name := "signsFor", desc := "(II)I" } : Jvm.MethodName) prog_18_method_132_code (5 : Nat) (Option.some Jvm.ClassFile.FieldType.int)) ∈ lw_all := lw_g (lw_at lw_m9 69 rfl) rfl
theorem q2147 : (Jvm.Cond.methodLink "LettersOnStrikeModel" (478 : Nat) ({ cls := "LettersOnStrikeModel", name := "areEnough", desc := "(II)Z" } : Jvm.MethodName)) ∈ lw_all := lw_g (lw_at lw_m9 70 rfl) rfl
theorem q2148 : (Jvm.Cond.privateMethod ({ cls := "LettersOnStrikeModel", name := "areEnough", desc := "(II)Z" } : Jvm.MethodName)) ∈ lw_tbl := lw_at lw_m9 71 rfl
theorem q2149 : (Jvm.Cond.instanceMethod ({ cls := "LettersOnStrikeModel", name := "areEnough", desc := "(II)Z" } : Jvm.MethodName)) ∈ lw_all := lw_g (lw_at lw_m9 72 rfl) rfl
theorem q2150 : (Jvm.Cond.code ({ cls := "LettersOnStrikeModel", name := "areEnough", desc := "(II)Z" } : Jvm.MethodName) prog_18_method_131_code (5 : Nat) (Option.some Jvm.ClassFile.FieldType.boolean)) ∈ lw_all := lw_g (lw_at lw_m9 73 rfl) rfl
theorem q2151 : (Jvm.Cond.methodLink "LettersOnStrikeModel" (469 : Nat) ({ cls := "LettersOnStrikeModel", name := "unlike", desc := "(I)I" } : Jvm.MethodName)) ∈ lw_all := lw_g (lw_at lw_m9 74 rfl) rfl
theorem q2152 : (Jvm.Cond.privateMethod ({ cls := "LettersOnStrikeModel", name := "unlike", desc := "(I)I" } : Jvm.MethodName)) ∈ lw_tbl := lw_at lw_m9 75 rfl
theorem q2153 : (Jvm.Cond.instanceMethod ({ cls := "LettersOnStrikeModel", name := "unlike", desc := "(I)I" } : Jvm.MethodName)) ∈ lw_all := lw_g (lw_at lw_m9 76 rfl) rfl
theorem q2154 : (Jvm.Cond.code ({ cls := "LettersOnStrikeModel", name := "unlike", desc := "(I)I" } : Jvm.MethodName) prog_18_method_129_code (4 : Nat) (Option.some Jvm.ClassFile.FieldType.int)) ∈ lw_all := lw_g (lw_at lw_m9 77 rfl) rfl
theorem q2155 : (Jvm.Cond.methodLink "LettersOnStrikeModel" (472 : Nat) ({ cls := "LettersOnStrikeModel", name := "isClear", desc := "()Z" } : Jvm.MethodName)) ∈ lw_all := lw_g (lw_at lw_m9 78 rfl) rfl
theorem q2156 : (Jvm.Cond.privateMethod ({ cls := "LettersOnStrikeModel", name := "isClear", desc := "()Z" } : Jvm.MethodName)) ∈ lw_tbl := lw_at lw_m9 79 rfl
theorem q2157 : (Jvm.Cond.instanceMethod ({ cls := "LettersOnStrikeModel", name := "isClear", desc := "()Z" } : Jvm.MethodName)) ∈ lw_all := lw_g (lw_at lw_m9 80 rfl) rfl
theorem q2158 : (Jvm.Cond.code ({ cls := "LettersOnStrikeModel", name := "isClear", desc := "()Z" } : Jvm.MethodName) prog_18_method_128_code (3 : Nat) (Option.some Jvm.ClassFile.FieldType.boolean)) ∈ lw_all := lw_g (lw_at lw_m9 81 rfl) rfl
theorem q2159 : (Jvm.Cond.methodLink "LettersOnStrikeModel" (466 : Nat) ({ cls := "LettersOnStrikeModel", name := "areAlike", desc := "(II)Z" } : Jvm.MethodName)) ∈ lw_all := lw_g (lw_at lw_m9 82 rfl) rfl
theorem q2160 : (Jvm.Cond.privateMethod ({ cls := "LettersOnStrikeModel", name := "areAlike", desc := "(II)Z" } : Jvm.MethodName)) ∈ lw_tbl := lw_at lw_m9 83 rfl
theorem q2161 : (Jvm.Cond.instanceMethod ({ cls := "LettersOnStrikeModel", name := "areAlike", desc := "(II)Z" } : Jvm.MethodName)) ∈ lw_all := lw_g (lw_at lw_m9 84 rfl) rfl
theorem q2162 : (Jvm.Cond.code ({ cls := "LettersOnStrikeModel", name := "areAlike", desc := "(II)Z" } : Jvm.MethodName) prog_18_method_127_code (6 : Nat) (Option.some Jvm.ClassFile.FieldType.boolean)) ∈ lw_all := lw_g (lw_at lw_m9 85 rfl) rfl
theorem q2163 : (Jvm.Cond.methodLink "LettersOnStrikeModel" (475 : Nat) ({ cls := "LettersOnStrikeModel", name := "nextSigns", desc := "(I)Z" } : Jvm.MethodName)) ∈ lw_all := lw_g (lw_at lw_m9 86 rfl) rfl
theorem q2164 : (Jvm.Cond.privateMethod ({ cls := "LettersOnStrikeModel", name := "nextSigns", desc := "(I)Z" } : Jvm.MethodName)) ∈ lw_tbl := lw_at lw_m9 87 rfl
theorem q2165 : (Jvm.Cond.instanceMethod ({ cls := "LettersOnStrikeModel", name := "nextSigns", desc := "(I)Z" } : Jvm.MethodName)) ∈ lw_all := lw_g (lw_at lw_m9 88 rfl) rfl
theorem q2166 : (Jvm.Cond.code ({ cls := "LettersOnStrikeModel", name := "nextSigns", desc := "(I)Z" } : Jvm.MethodName) prog_18_method_130_code (4 : Nat) (Option.some Jvm.ClassFile.FieldType.boolean)) ∈ lw_all := lw_g (lw_at lw_m9 89 rfl) rfl
theorem q2167 : (Jvm.Cond.methodLink "LettersOnStrikeLaw" (150 : Nat) ({ cls := "LettersOnStrikeModel", name := "settlement", desc := "(II)I" } : Jvm.MethodName)) ∈ lw_all := lw_g (lw_at lw_m9 90 rfl) rfl
theorem q2168 : (Jvm.Cond.instanceMethod ({ cls := "LettersOnStrikeModel", name := "settlement", desc := "(II)I" } : Jvm.MethodName)) ∈ lw_all := lw_g (lw_at lw_m9 91 rfl) rfl
theorem q2169 : (Jvm.Cond.selects "LettersOnStrikeModel" ({ cls := "LettersOnStrikeModel", name := "settlement", desc := "(II)I" } : Jvm.MethodName) ({ cls := "LettersOnStrikeModel", name := "settlement", desc := "(II)I" } : Jvm.MethodName)) ∈ lw_all := lw_g (lw_at lw_m9 92 rfl) rfl
theorem q2170 : (Jvm.Cond.code ({ cls := "LettersOnStrikeModel", name := "settlement", desc := "(II)I" } : Jvm.MethodName) prog_18_method_134_code (5 : Nat) (Option.some Jvm.ClassFile.FieldType.int)) ∈ lw_all := lw_g (lw_at lw_m9 93 rfl) rfl
theorem q2171 : (Jvm.Cond.constant "LettersOnStrikeModel" (487 : Nat) (1000000 : Int32)) ∈ lw_all := lw_g (lw_at lw_m9 94 rfl) rfl
theorem q2172 : (Jvm.Cond.methodLink "LettersOnStrikeModel" (488 : Nat) ({ cls := "LettersOnStrikeModel", name := "weigh", desc := "(II)V" } : Jvm.MethodName)) ∈ lw_all := lw_g (lw_at lw_m9 95 rfl) rfl
theorem q2173 : (Jvm.Cond.privateMethod ({ cls := "LettersOnStrikeModel", name := "weigh", desc := "(II)V" } : Jvm.MethodName)) ∈ lw_tbl := lw_at lw_m9 96 rfl
theorem q2174 : (Jvm.Cond.instanceMethod ({ cls := "LettersOnStrikeModel", name := "weigh", desc := "(II)V" } : Jvm.MethodName)) ∈ lw_all := lw_g (lw_at lw_m9 97 rfl) rfl
theorem q2175 : (Jvm.Cond.code ({ cls := "LettersOnStrikeModel", name := "weigh", desc := "(II)V" } : Jvm.MethodName) prog_18_method_133_code (6 : Nat) (Option.none : Option Jvm.ClassFile.FieldType)) ∈ lw_all := lw_g (lw_at lw_m9 98 rfl) rfl
theorem q2176 : (Jvm.Cond.methodLink "LettersOnStrikeLaw" (155 : Nat) ({ cls := "LettersOnStrikeModel", name := "learn", desc := "(IZ)I" } : Jvm.MethodName)) ∈ lw_all := lw_g (lw_at lw_m9 99 rfl) rfl
theorem q2177 : (Jvm.Cond.instanceMethod ({ cls := "LettersOnStrikeModel", name := "learn", desc := "(IZ)I" } : Jvm.MethodName)) ∈ lw_all := lw_g (lw_at lw_m9 100 rfl) rfl
theorem q2178 : (Jvm.Cond.selects "LettersOnStrikeModel" ({ cls := "LettersOnStrikeModel", name := "learn", desc := "(IZ)I" } : Jvm.MethodName) ({ cls := "LettersOnStrikeModel", name := "learn", desc := "(IZ)I" } : Jvm.MethodName)) ∈ lw_all := lw_g (lw_at lw_m9 101 rfl) rfl
theorem q2179 : (Jvm.Cond.code ({ cls := "LettersOnStrikeModel", name := "learn", desc := "(IZ)I" } : Jvm.MethodName) prog_18_method_136_code (10 : Nat) (Option.some Jvm.ClassFile.FieldType.int)) ∈ lw_all := lw_g (lw_at lw_m9 102 rfl) rfl
theorem q2180 : (Jvm.Cond.methodLink "LettersOnStrikeModel" (491 : Nat) ({ cls := "LettersOnStrikeModel", name := "writtenWith", desc := "(I)I" } : Jvm.MethodName)) ∈ lw_all := lw_g (lw_at lw_m9 103 rfl) rfl
theorem q2181 : (Jvm.Cond.privateMethod ({ cls := "LettersOnStrikeModel", name := "writtenWith", desc := "(I)I" } : Jvm.MethodName)) ∈ lw_tbl := lw_at lw_m9 104 rfl
theorem q2182 : (Jvm.Cond.instanceMethod ({ cls := "LettersOnStrikeModel", name := "writtenWith", desc := "(I)I" } : Jvm.MethodName)) ∈ lw_all := lw_g (lw_at lw_m9 105 rfl) rfl
theorem q2183 : (Jvm.Cond.code ({ cls := "LettersOnStrikeModel", name := "writtenWith", desc := "(I)I" } : Jvm.MethodName) prog_18_method_135_code (4 : Nat) (Option.some Jvm.ClassFile.FieldType.int)) ∈ lw_all := lw_g (lw_at lw_m9 106 rfl) rfl
theorem q2184 : (Jvm.Cond.methodLink "LettersOnStrikeLaw" (159 : Nat) ({ cls := "LettersOnStrikeModel", name := "hair", desc := "(II)I" } : Jvm.MethodName)) ∈ lw_all := lw_g (lw_at lw_m9 107 rfl) rfl
theorem q2185 : (Jvm.Cond.instanceMethod ({ cls := "LettersOnStrikeModel", name := "hair", desc := "(II)I" } : Jvm.MethodName)) ∈ lw_all := lw_g (lw_at lw_m9 108 rfl) rfl
theorem q2186 : (Jvm.Cond.selects "LettersOnStrikeModel" ({ cls := "LettersOnStrikeModel", name := "hair", desc := "(II)I" } : Jvm.MethodName) ({ cls := "LettersOnStrikeModel", name := "hair", desc := "(II)I" } : Jvm.MethodName)) ∈ lw_all := lw_g (lw_at lw_m9 109 rfl) rfl
theorem q2187 : (Jvm.Cond.code ({ cls := "LettersOnStrikeModel", name := "hair", desc := "(II)I" } : Jvm.MethodName) prog_18_method_138_code (5 : Nat) (Option.some Jvm.ClassFile.FieldType.int)) ∈ lw_all := lw_g (lw_at lw_m9 110 rfl) rfl
theorem q2188 : (Jvm.Cond.methodLink "LettersOnStrikeModel" (494 : Nat) ({ cls := "LettersOnStrikeModel", name := "isHair", desc := "(II)Z" } : Jvm.MethodName)) ∈ lw_all := lw_g (lw_at lw_m9 111 rfl) rfl
theorem q2189 : (Jvm.Cond.privateMethod ({ cls := "LettersOnStrikeModel", name := "isHair", desc := "(II)Z" } : Jvm.MethodName)) ∈ lw_tbl := lw_at lw_m9 112 rfl
theorem q2190 : (Jvm.Cond.instanceMethod ({ cls := "LettersOnStrikeModel", name := "isHair", desc := "(II)Z" } : Jvm.MethodName)) ∈ lw_all := lw_g (lw_at lw_m9 113 rfl) rfl
theorem q2191 : (Jvm.Cond.code ({ cls := "LettersOnStrikeModel", name := "isHair", desc := "(II)Z" } : Jvm.MethodName) prog_18_method_137_code (5 : Nat) (Option.some Jvm.ClassFile.FieldType.boolean)) ∈ lw_all := lw_g (lw_at lw_m9 114 rfl) rfl
theorem q2192 : (Jvm.Cond.methodLink "LettersOnStrikeLaw" (163 : Nat) ({ cls := "LettersOnStrikeModel", name := "printed", desc := "(IIZ)I" } : Jvm.MethodName)) ∈ lw_all := lw_g (lw_at lw_m9 115 rfl) rfl
theorem q2193 : (Jvm.Cond.instanceMethod ({ cls := "LettersOnStrikeModel", name := "printed", desc := "(IIZ)I" } : Jvm.MethodName)) ∈ lw_all := lw_g (lw_at lw_m9 116 rfl) rfl
theorem q2194 : (Jvm.Cond.selects "LettersOnStrikeModel" ({ cls := "LettersOnStrikeModel", name := "printed", desc := "(IIZ)I" } : Jvm.MethodName) ({ cls := "LettersOnStrikeModel", name := "printed", desc := "(IIZ)I" } : Jvm.MethodName)) ∈ lw_all := lw_g (lw_at lw_m9 117 rfl) rfl
theorem q2195 : (Jvm.Cond.code ({ cls := "LettersOnStrikeModel", name := "printed", desc := "(IIZ)I" } : Jvm.MethodName) prog_18_method_139_code (5 : Nat) (Option.some Jvm.ClassFile.FieldType.int)) ∈ lw_all := lw_g (lw_at lw_m9 118 rfl) rfl
theorem q2196 : (Jvm.Cond.methodLink "LettersOnStrikeLaw" (167 : Nat) ({ cls := "LettersOnStrikeModel", name := "spells", desc := "(II)I" } : Jvm.MethodName)) ∈ lw_all := lw_g (lw_at lw_m9 119 rfl) rfl
theorem q2197 : (Jvm.Cond.instanceMethod ({ cls := "LettersOnStrikeModel", name := "spells", desc := "(II)I" } : Jvm.MethodName)) ∈ lw_all := lw_g (lw_at lw_m9 120 rfl) rfl
theorem q2198 : (Jvm.Cond.selects "LettersOnStrikeModel" ({ cls := "LettersOnStrikeModel", name := "spells", desc := "(II)I" } : Jvm.MethodName) ({ cls := "LettersOnStrikeModel", name := "spells", desc := "(II)I" } : Jvm.MethodName)) ∈ lw_all := lw_g (lw_at lw_m9 121 rfl) rfl
theorem q2199 : (Jvm.Cond.code ({ cls := "LettersOnStrikeModel", name := "spells", desc := "(II)I" } : Jvm.MethodName) prog_18_method_142_code (6 : Nat) (Option.some Jvm.ClassFile.FieldType.int)) ∈ lw_all := lw_g (lw_at lw_m9 122 rfl) rfl
theorem q2200 : (Jvm.Cond.methodLink "LettersOnStrikeModel" (500 : Nat) ({ cls := "LettersOnStrikeModel", name := "canBe", desc := "(III)Z" } : Jvm.MethodName)) ∈ lw_all := lw_g (lw_at lw_m9 123 rfl) rfl
theorem q2201 : (Jvm.Cond.privateMethod ({ cls := "LettersOnStrikeModel", name := "canBe", desc := "(III)Z" } : Jvm.MethodName)) ∈ lw_tbl := lw_at lw_m9 124 rfl
theorem q2202 : (Jvm.Cond.instanceMethod ({ cls := "LettersOnStrikeModel", name := "canBe", desc := "(III)Z" } : Jvm.MethodName)) ∈ lw_all := lw_g (lw_at lw_m9 125 rfl) rfl
theorem q2203 : (Jvm.Cond.code ({ cls := "LettersOnStrikeModel", name := "canBe", desc := "(III)Z" } : Jvm.MethodName) prog_18_method_141_code (9 : Nat) (Option.some Jvm.ClassFile.FieldType.boolean)) ∈ lw_all := lw_g (lw_at lw_m9 126 rfl) rfl
theorem q2204 : (Jvm.Cond.methodLink "LettersOnStrikeModel" (497 : Nat) ({ cls := "LettersOnStrikeModel", name := "setThere", desc := "(I)I" } : Jvm.MethodName)) ∈ lw_all := lw_g (lw_at lw_m9 127 rfl) rfl
theorem q2205 : (Jvm.Cond.privateMethod ({ cls := "LettersOnStrikeModel", name := "setThere", desc := "(I)I" } : Jvm.MethodName)) ∈ lw_tbl := lw_at lw_m9 128 rfl
theorem q2206 : (Jvm.Cond.instanceMethod ({ cls := "LettersOnStrikeModel", name := "setThere", desc := "(I)I" } : Jvm.MethodName)) ∈ lw_all := lw_g (lw_at lw_m9 129 rfl) rfl
theorem q2207 : (Jvm.Cond.code ({ cls := "LettersOnStrikeModel", name := "setThere", desc := "(I)I" } : Jvm.MethodName) prog_18_method_140_code (4 : Nat) (Option.some Jvm.ClassFile.FieldType.int)) ∈ lw_all := lw_g (lw_at lw_m9 130 rfl) rfl
theorem q2208 : (Jvm.Cond.methodLink "LettersOnStrikeLaw" (171 : Nat) ({ cls := "LettersOnStrikeModel", name := "signed", desc := "(II)I" } : Jvm.MethodName)) ∈ lw_all := lw_g (lw_at lw_m9 131 rfl) rfl
theorem q2209 : (Jvm.Cond.instanceMethod ({ cls := "LettersOnStrikeModel", name := "signed", desc := "(II)I" } : Jvm.MethodName)) ∈ lw_all := lw_g (lw_at lw_m9 132 rfl) rfl
theorem q2210 : (Jvm.Cond.selects "LettersOnStrikeModel" ({ cls := "LettersOnStrikeModel", name := "signed", desc := "(II)I" } : Jvm.MethodName) ({ cls := "LettersOnStrikeModel", name := "signed", desc := "(II)I" } : Jvm.MethodName)) ∈ lw_all := lw_g (lw_at lw_m9 133 rfl) rfl
theorem q2211 : (Jvm.Cond.code ({ cls := "LettersOnStrikeModel", name := "signed", desc := "(II)I" } : Jvm.MethodName) prog_18_method_146_code (4 : Nat) (Option.some Jvm.ClassFile.FieldType.int)) ∈ lw_all := lw_g (lw_at lw_m9 134 rfl) rfl
theorem q2212 : (Jvm.Cond.methodLink "LettersOnStrikeModel" (506 : Nat) ({ cls := "LettersOnStrikeModel", name := "binds", desc := "(I)Z" } : Jvm.MethodName)) ∈ lw_all := lw_g (lw_at lw_m9 135 rfl) rfl
theorem q2213 : (Jvm.Cond.privateMethod ({ cls := "LettersOnStrikeModel", name := "binds", desc := "(I)Z" } : Jvm.MethodName)) ∈ lw_tbl := lw_at lw_m9 136 rfl
theorem q2214 : (Jvm.Cond.instanceMethod ({ cls := "LettersOnStrikeModel", name := "binds", desc := "(I)Z" } : Jvm.MethodName)) ∈ lw_all := lw_g (lw_at lw_m9 137 rfl) rfl
theorem q2215 : (Jvm.Cond.code ({ cls := "LettersOnStrikeModel", name := "binds", desc := "(I)Z" } : Jvm.MethodName) prog_18_method_144_code (4 : Nat) (Option.some Jvm.ClassFile.FieldType.boolean)) ∈ lw_all := lw_g (lw_at lw_m9 138 rfl) rfl
theorem q2216 : (Jvm.Cond.methodLink "LettersOnStrikeModel" (503 : Nat) ({ cls := "LettersOnStrikeModel", name := "brokenOf", desc := "(I)I" } : Jvm.MethodName)) ∈ lw_all := lw_g (lw_at lw_m9 139 rfl) rfl
theorem q2217 : (Jvm.Cond.privateMethod ({ cls := "LettersOnStrikeModel", name := "brokenOf", desc := "(I)I" } : Jvm.MethodName)) ∈ lw_tbl := lw_at lw_m9 140 rfl
theorem q2218 : (Jvm.Cond.instanceMethod ({ cls := "LettersOnStrikeModel", name := "brokenOf", desc := "(I)I" } : Jvm.MethodName)) ∈ lw_all := lw_g (lw_at lw_m9 141 rfl) rfl
theorem q2219 : (Jvm.Cond.code ({ cls := "LettersOnStrikeModel", name := "brokenOf", desc := "(I)I" } : Jvm.MethodName) prog_18_method_143_code (5 : Nat) (Option.some Jvm.ClassFile.FieldType.int)) ∈ lw_all := lw_g (lw_at lw_m9 142 rfl) rfl
theorem q2220 : (Jvm.Cond.methodLink "LettersOnStrikeModel" (509 : Nat) ({ cls := "LettersOnStrikeModel", name := "loophole", desc := "(I)I" } : Jvm.MethodName)) ∈ lw_all := lw_g (lw_at lw_m9 143 rfl) rfl
theorem q2221 : (Jvm.Cond.privateMethod ({ cls := "LettersOnStrikeModel", name := "loophole", desc := "(I)I" } : Jvm.MethodName)) ∈ lw_tbl := lw_at lw_m9 144 rfl
theorem q2222 : (Jvm.Cond.instanceMethod ({ cls := "LettersOnStrikeModel", name := "loophole", desc := "(I)I" } : Jvm.MethodName)) ∈ lw_all := lw_g (lw_at lw_m9 145 rfl) rfl
theorem q2223 : (Jvm.Cond.code ({ cls := "LettersOnStrikeModel", name := "loophole", desc := "(I)I" } : Jvm.MethodName) prog_18_method_145_code (5 : Nat) (Option.some Jvm.ClassFile.FieldType.int)) ∈ lw_all := lw_g (lw_at lw_m9 146 rfl) rfl
theorem q2224 : (Jvm.Cond.methodLink "LettersOnStrikeLaw" (175 : Nat) ({ cls := "LettersOnStrikeModel", name := "image", desc := "()I" } : Jvm.MethodName)) ∈ lw_all := lw_g (lw_at lw_m9 147 rfl) rfl
theorem q2225 : (Jvm.Cond.instanceMethod ({ cls := "LettersOnStrikeModel", name := "image", desc := "()I" } : Jvm.MethodName)) ∈ lw_all := lw_g (lw_at lw_m9 148 rfl) rfl
theorem q2226 : (Jvm.Cond.selects "LettersOnStrikeModel" ({ cls := "LettersOnStrikeModel", name := "image", desc := "()I" } : Jvm.MethodName) ({ cls := "LettersOnStrikeModel", name := "image", desc := "()I" } : Jvm.MethodName)) ∈ lw_all := lw_g (lw_at lw_m9 149 rfl) rfl
theorem q2227 : (Jvm.Cond.code ({ cls := "LettersOnStrikeModel", name := "image", desc := "()I" } : Jvm.MethodName) prog_18_method_147_code (1 : Nat) (Option.some Jvm.ClassFile.FieldType.int)) ∈ lw_all := lw_g (lw_at lw_m9 150 rfl) rfl
theorem q2228 : (Jvm.Cond.methodLink "LettersOnStrikeLaw" (179 : Nat) ({ cls := "LettersOnStrikeModel", name := "back", desc := "()I" } : Jvm.MethodName)) ∈ lw_all := lw_g (lw_at lw_m9 151 rfl) rfl
theorem q2229 : (Jvm.Cond.instanceMethod ({ cls := "LettersOnStrikeModel", name := "back", desc := "()I" } : Jvm.MethodName)) ∈ lw_all := lw_g (lw_at lw_m9 152 rfl) rfl
theorem q2230 : (Jvm.Cond.selects "LettersOnStrikeModel" ({ cls := "LettersOnStrikeModel", name := "back", desc := "()I" } : Jvm.MethodName) ({ cls := "LettersOnStrikeModel", name := "back", desc := "()I" } : Jvm.MethodName)) ∈ lw_all := lw_g (lw_at lw_m9 153 rfl) rfl
theorem q2231 : (Jvm.Cond.code ({ cls := "LettersOnStrikeModel", name := "back", desc := "()I" } : Jvm.MethodName) prog_18_method_148_code (1 : Nat) (Option.some Jvm.ClassFile.FieldType.int)) ∈ lw_all := lw_g (lw_at lw_m9 154 rfl) rfl
theorem q2232 : (Jvm.Cond.methodLink "LettersOnStrikeLaw" (183 : Nat) ({ cls := "LettersOnStrikeModel", name := "about", desc := "(I)I" } : Jvm.MethodName)) ∈ lw_all := lw_g (lw_at lw_m9 155 rfl) rfl
theorem q2233 : (Jvm.Cond.instanceMethod ({ cls := "LettersOnStrikeModel", name := "about", desc := "(I)I" } : Jvm.MethodName)) ∈ lw_all := lw_g (lw_at lw_m9 156 rfl) rfl
theorem q2234 : (Jvm.Cond.selects "LettersOnStrikeModel" ({ cls := "LettersOnStrikeModel", name := "about", desc := "(I)I" } : Jvm.MethodName) ({ cls := "LettersOnStrikeModel", name := "about", desc := "(I)I" } : Jvm.MethodName)) ∈ lw_all := lw_g (lw_at lw_m9 157 rfl) rfl
theorem q2235 : (Jvm.Cond.code ({ cls := "LettersOnStrikeModel", name := "about", desc := "(I)I" } : Jvm.MethodName) prog_18_method_149_code (2 : Nat) (Option.some Jvm.ClassFile.FieldType.int)) ∈ lw_all := lw_g (lw_at lw_m9 158 rfl) rfl
theorem q2236 : (Jvm.Cond.sameMethod "java/lang/Throwable" "java/lang/Throwable" "fillInStackTrace" "(I)Ljava/lang/Throwable;") ∈ lw_all := lw_g (lw_at lw_m9 159 rfl) rfl
theorem q2237 : (Jvm.Cond.initialized "java/lang/Object") ∈ lw_all := lw_g (lw_at lw_m9 160 rfl) rfl
theorem q2238 : (Jvm.Cond.castable "LettersOnStrike$Word" "java/lang/Object") ∈ lw_tbl := lw_at lw_m9 161 rfl
theorem q2239 : (Jvm.Cond.castable "LettersOnStrike$Text" "java/lang/Object") ∈ lw_tbl := lw_at lw_m9 162 rfl
theorem q2240 : (Jvm.Cond.castable "java/lang/String" "java/lang/Object") ∈ lw_tbl := lw_at lw_m9 163 rfl
theorem q2241 : (Jvm.Cond.castable "LettersOnStrike" "java/lang/Object") ∈ lw_tbl := lw_at lw_m9 164 rfl
theorem q2242 : (Jvm.Cond.castable "LettersOnStrike$State" "java/lang/Object") ∈ lw_tbl := lw_at lw_m9 165 rfl
theorem q2243 : (Jvm.Cond.castable "LettersOnStrikeModel" "java/lang/Object") ∈ lw_tbl := lw_at lw_m9 166 rfl
theorem q2244 : (Jvm.Cond.castable "jdk/internal/misc/Unsafe" "java/lang/Object") ∈ lw_tbl := lw_at lw_m9 167 rfl
theorem q2245 : (Jvm.Cond.castable "LettersOnStrike$Tokens" "java/lang/Object") ∈ lw_tbl := lw_at lw_m9 168 rfl
theorem q2246 : (Jvm.Cond.castable "java/util/ArrayList" "java/lang/Object") ∈ lw_tbl := lw_at lw_m9 169 rfl
theorem q2247 : (Jvm.Cond.castable "LettersOnStrike$Wrong" "java/lang/Object") ∈ lw_tbl := lw_at lw_m9 170 rfl
theorem q2248 : (Jvm.Cond.castable "LettersOnStrike$Not" "java/lang/Object") ∈ lw_tbl := lw_at lw_m9 171 rfl
theorem q2249 : (Jvm.Cond.castable "LettersOnStrike$Chain" "java/lang/Object") ∈ lw_tbl := lw_at lw_m9 172 rfl
theorem q2250 : (Jvm.Cond.castable "LettersOnStrike$Plain" "java/lang/Object") ∈ lw_tbl := lw_at lw_m9 173 rfl
theorem q2251 : (Jvm.Cond.castable "LettersOnStrike$Name" "java/lang/Object") ∈ lw_tbl := lw_at lw_m9 174 rfl
theorem q2252 : (Jvm.Cond.castable "LettersOnStrike$Minus" "java/lang/Object") ∈ lw_tbl := lw_at lw_m9 175 rfl
theorem q2253 : (Jvm.Cond.castable "java/lang/Integer" "java/lang/Object") ∈ lw_tbl := lw_at lw_m9 176 rfl
theorem q2254 : (Jvm.Cond.castable "LettersOnStrike$Compared" "java/lang/Object") ∈ lw_tbl := lw_at lw_m9 177 rfl
theorem q2255 : (Jvm.Cond.castable "LettersOnStrike$All" "java/lang/Object") ∈ lw_tbl := lw_at lw_m9 178 rfl
theorem q2256 : (Jvm.Cond.castable "LettersOnStrike$Doing" "java/lang/Object") ∈ lw_tbl := lw_at lw_m9 179 rfl
theorem q2257 : (Jvm.Cond.castable "java/lang/Throwable" "java/lang/Object") ∈ lw_tbl := lw_at lw_m9 180 rfl
theorem q2258 : (Jvm.Cond.sameMethod "[Ljava/lang/Object;" "java/lang/Object" "getClass" "()Ljava/lang/Class;") ∈ lw_all := lw_g (lw_at lw_m9 181 rfl) rfl
theorem q2259 : (Jvm.Cond.selects "[Ljava/lang/Object;" ({ cls := "java/lang/Object", name := "getClass", desc := "()Ljava/lang/Class;" } : Jvm.MethodName) ({ cls := "java/lang/Object", name := "getClass", desc := "()Ljava/lang/Class;" } : Jvm.MethodName)) ∈ lw_all := lw_g (lw_at lw_m9 182 rfl) rfl
theorem q2260 : (Jvm.Cond.declares ({ cls := "java/lang/Object", name := "getClass", desc := "()Ljava/lang/Class;" } : Jvm.MethodName)) ∈ lw_tbl := lw_at lw_m9 183 rfl
theorem q2261 : (Jvm.Cond.castable "[LLettersOnStrike$Word;" "java/lang/Object") ∈ lw_tbl := lw_at lw_m9 184 rfl
theorem q2262 : (Jvm.Cond.castable "[[I" "java/lang/Object") ∈ lw_tbl := lw_at lw_m9 185 rfl
theorem q2263 : (Jvm.Cond.castable "[LLettersOnStrike$Text;" "java/lang/Object") ∈ lw_tbl := lw_at lw_m9 186 rfl
theorem q2264 : (Jvm.Cond.castable "[I" "java/lang/Object") ∈ lw_tbl := lw_at lw_m9 187 rfl
theorem q2265 : (Jvm.Cond.castable "[B" "java/lang/Object") ∈ lw_tbl := lw_at lw_m9 188 rfl
theorem q2266 : (Jvm.Cond.castable "[Ljava/lang/Object;" "java/lang/Object") ∈ lw_tbl := lw_at lw_m9 189 rfl
theorem q2267 : (Jvm.Cond.castable "[J" "java/lang/Object") ∈ lw_tbl := lw_at lw_m9 190 rfl
theorem q2268 : (Jvm.Cond.castable "[Z" "java/lang/Object") ∈ lw_tbl := lw_at lw_m9 191 rfl
theorem q2269 : (Jvm.Cond.castable "[Ljava/lang/String;" "java/lang/Object") ∈ lw_tbl := lw_at lw_m9 192 rfl
theorem q2270 : (Jvm.Cond.fieldLink "java/lang/String" (9 : Nat) "java/lang/String" "value" "[B") ∈ lw_all := lw_g (lw_at lw_m9 193 rfl) rfl
theorem q2271 : (Jvm.Cond.fieldLink "java/lang/String" (15 : Nat) "java/lang/String" "coder" "B") ∈ lw_all := lw_g (lw_at lw_m9 194 rfl) rfl
theorem q2272 : (Jvm.Cond.stringRef "LettersOnStrike$Tokens" (223 : Nat) "joins") ∈ lw_tbl := lw_at lw_m9 195 rfl
theorem q2273 : (Jvm.Cond.stringRef "LettersOnStrike$Tokens" (224 : Nat) "returns") ∈ lw_tbl := lw_at lw_m9 196 rfl
theorem q2274 : (Jvm.Cond.stringRef "LettersOnStrike$Tokens" (225 : Nat) "price") ∈ lw_tbl := lw_at lw_m9 197 rfl
theorem q2275 : (Jvm.Cond.stringRef "LettersOnStrike$Tokens" (226 : Nat) "binds") ∈ lw_tbl := lw_at lw_m9 198 rfl
theorem q2276 : (Jvm.Cond.stringRef "LettersOnStrike$Tokens" (227 : Nat) "word") ∈ lw_tbl := lw_at lw_m9 199 rfl
theorem q2277 : (Jvm.Cond.stringRef "LettersOnStrike$Tokens" (229 : Nat) "say") ∈ lw_tbl := lw_at lw_m9 200 rfl
theorem q2278 : (Jvm.Cond.stringRef "LettersOnStrike$Tokens" (231 : Nat) "tie") ∈ lw_tbl := lw_at lw_m9 201 rfl
theorem q2279 : (Jvm.Cond.stringRef "LettersOnStrike$Tokens" (233 : Nat) "strike") ∈ lw_tbl := lw_at lw_m9 202 rfl
theorem q2280 : (Jvm.Cond.stringRef "LettersOnStrike$Tokens" (235 : Nat) "back") ∈ lw_tbl := lw_at lw_m9 203 rfl
theorem q2281 : (Jvm.Cond.stringRef "LettersOnStrike$Tokens" (237 : Nat) "raise") ∈ lw_tbl := lw_at lw_m9 204 rfl
theorem q2282 : (Jvm.Cond.stringRef "LettersOnStrike$Tokens" (239 : Nat) "sign") ∈ lw_tbl := lw_at lw_m9 205 rfl
theorem q2283 : (Jvm.Cond.stringRef "LettersOnStrike$Tokens" (240 : Nat) "contract") ∈ lw_tbl := lw_at lw_m9 206 rfl
theorem q2284 : (Jvm.Cond.stringRef "LettersOnStrike$Tokens" (242 : Nat) "morning") ∈ lw_tbl := lw_at lw_m9 207 rfl
theorem q2285 : (Jvm.Cond.stringRef "LettersOnStrike$Tokens" (244 : Nat) "means") ∈ lw_tbl := lw_at lw_m9 208 rfl
theorem q2286 : (Jvm.Cond.stringRef "LettersOnStrike$Tokens" (246 : Nat) "to") ∈ lw_tbl := lw_at lw_m9 209 rfl
theorem q2287 : (Jvm.Cond.stringRef "LettersOnStrike$Tokens" (248 : Nat) "by") ∈ lw_tbl := lw_at lw_m9 210 rfl
theorem q2288 : (Jvm.Cond.stringRef "LettersOnStrike$Tokens" (250 : Nat) "as") ∈ lw_tbl := lw_at lw_m9 211 rfl
theorem q2289 : (Jvm.Cond.stringRef "LettersOnStrike$Tokens" (252 : Nat) "none") ∈ lw_tbl := lw_at lw_m9 212 rfl
theorem q2290 : (Jvm.Cond.stringRef "LettersOnStrike$Tokens" (254 : Nat) "or") ∈ lw_tbl := lw_at lw_m9 213 rfl
theorem q2291 : (Jvm.Cond.stringRef "LettersOnStrike$Tokens" (256 : Nat) "and") ∈ lw_tbl := lw_at lw_m9 214 rfl
theorem q2292 : (Jvm.Cond.stringRef "LettersOnStrike$Tokens" (258 : Nat) "not") ∈ lw_tbl := lw_at lw_m9 215 rfl
theorem q2293 : (Jvm.Cond.stringRef "LettersOnStrike$Tokens" (260 : Nat) "day") ∈ lw_tbl := lw_at lw_m9 216 rfl
theorem q2294 : (Jvm.Cond.stringRef "LettersOnStrike$Tokens" (262 : Nat) "outs") ∈ lw_tbl := lw_at lw_m9 217 rfl
theorem q2295 : (Jvm.Cond.stringRef "LettersOnStrike$Tokens" (264 : Nat) "letter") ∈ lw_tbl := lw_at lw_m9 218 rfl
theorem q2296 : (Jvm.Cond.stringRef "LettersOnStrike$Tokens" (266 : Nat) "wage") ∈ lw_tbl := lw_at lw_m9 219 rfl
theorem q2297 : (Jvm.Cond.stringRef "LettersOnStrike$Tokens" (268 : Nat) "since") ∈ lw_tbl := lw_at lw_m9 220 rfl
theorem q2298 : (Jvm.Cond.stringRef "LettersOnStrike$Tokens" (270 : Nat) "vowel") ∈ lw_tbl := lw_at lw_m9 221 rfl
theorem q2299 : (Jvm.Cond.stringRef "LettersOnStrike$Tokens" (272 : Nat) "tied") ∈ lw_tbl := lw_at lw_m9 222 rfl
theorem q2300 : (Jvm.Cond.stringRef "LettersOnStrike$Tokens" (274 : Nat) "uses") ∈ lw_tbl := lw_at lw_m9 223 rfl
theorem q2301 : (Jvm.Cond.stringRef "LettersOnStrike$Tokens" (276 : Nat) "length") ∈ lw_tbl := lw_at lw_m9 224 rfl
theorem q2302 : (Jvm.Cond.stringRef "LettersOnStrike$Tokens" (277 : Nat) "sense") ∈ lw_tbl := lw_at lw_m9 225 rfl
theorem q2303 : (Jvm.Cond.stringRef "LettersOnStrike$Tokens" (279 : Nat) "signs") ∈ lw_tbl := lw_at lw_m9 226 rfl
theorem q2304 : (Jvm.Cond.stringRef "LettersOnStrike$Tokens" (281 : Nat) "broken") ∈ lw_tbl := lw_at lw_m9 227 rfl
theorem q2305 : (Jvm.Cond.stringRef "LettersOnStrike$Tokens" (283 : Nat) "many") ∈ lw_tbl := lw_at lw_m9 228 rfl
theorem q2306 : (Jvm.Cond.stringRef "LettersOnStrike$Tokens" (285 : Nat) "days") ∈ lw_tbl := lw_at lw_m9 229 rfl
theorem q2307 : (Jvm.Cond.arrayOver (Jvm.ClassFile.FieldType.object "java/lang/String")) ∈ lw_tbl := lw_at lw_m9 230 rfl
