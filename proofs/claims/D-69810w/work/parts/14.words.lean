/-! the tables' words by their places (printed by gen/words.py out of claim/names) -/
set_option maxRecDepth 100000
theorem q149 : (Jvm.Cond.initialized "CoinJudgeLaw") ∈ lw_all := lw_g (lw_at lw_m1 0 rfl) rfl
theorem q150 : (Jvm.Cond.initialized "CoinJudge") ∈ lw_all := lw_g (lw_at lw_m1 1 rfl) rfl
theorem q151 : (Jvm.Cond.initialized "CoinJudge$Digests") ∈ lw_all := lw_g (lw_at lw_m1 2 rfl) rfl
theorem q152 : (Jvm.Cond.initialized "java/lang/Math") ∈ lw_all := lw_g (lw_at lw_m1 3 rfl) rfl
theorem q153 : (Jvm.Cond.initialized "CoinJudge$Curve") ∈ lw_all := lw_g (lw_at lw_m1 4 rfl) rfl
theorem q154 : (Jvm.Cond.initialized "CoinJudge$Ring") ∈ lw_all := lw_g (lw_at lw_m1 5 rfl) rfl
theorem q155 : (Jvm.Cond.initialized "CoinJudge$Big") ∈ lw_all := lw_g (lw_at lw_m1 6 rfl) rfl
theorem q156 : (Jvm.Cond.initialized "java/lang/String") ∈ lw_all := lw_g (lw_at lw_m1 7 rfl) rfl
theorem q157 : (Jvm.Cond.initialized "java/lang/StringLatin1") ∈ lw_all := lw_g (lw_at lw_m1 8 rfl) rfl
theorem q158 : (Jvm.Cond.initialized "jdk/internal/util/Preconditions") ∈ lw_all := lw_g (lw_at lw_m1 9 rfl) rfl
theorem q159 : (Jvm.Cond.initialized "java/lang/StringUTF16") ∈ lw_all := lw_g (lw_at lw_m1 10 rfl) rfl
theorem q160 : (Jvm.Cond.initialized "CoinJudge$Point") ∈ lw_all := lw_g (lw_at lw_m1 11 rfl) rfl
theorem q161 : (Jvm.Cond.initialized "CoinJudge$Machine") ∈ lw_all := lw_g (lw_at lw_m1 12 rfl) rfl
theorem q162 : (Jvm.Cond.initialized "CoinJudge$Signing") ∈ lw_all := lw_g (lw_at lw_m1 13 rfl) rfl
theorem q163 : (Jvm.Cond.initialized "CoinJudge$Coins") ∈ lw_all := lw_g (lw_at lw_m1 14 rfl) rfl
theorem q164 : (Jvm.Cond.initialized "CoinJudge$Draft") ∈ lw_all := lw_g (lw_at lw_m1 15 rfl) rfl
theorem q165 : (Jvm.Cond.initialized "CoinJudge$Sink") ∈ lw_all := lw_g (lw_at lw_m1 16 rfl) rfl
theorem q166 : (Jvm.Cond.initialized "CoinJudge$DraftTx") ∈ lw_all := lw_g (lw_at lw_m1 17 rfl) rfl
theorem q167 : (Jvm.Cond.initialized "CoinJudge$DraftInput") ∈ lw_all := lw_g (lw_at lw_m1 18 rfl) rfl
theorem q168 : (Jvm.Cond.initialized "java/lang/Throwable") ∈ lw_all := lw_g (lw_at lw_m1 19 rfl) rfl
theorem q169 : (Jvm.Cond.initialized "java/lang/Exception") ∈ lw_all := lw_g (lw_at lw_m1 20 rfl) rfl
theorem q170 : (Jvm.Cond.initialized "java/lang/RuntimeException") ∈ lw_all := lw_g (lw_at lw_m1 21 rfl) rfl
theorem q171 : (Jvm.Cond.initialized "java/lang/IndexOutOfBoundsException") ∈ lw_all := lw_g (lw_at lw_m1 22 rfl) rfl
theorem q172 : (Jvm.Cond.initialized "CoinJudge$DraftOutput") ∈ lw_all := lw_g (lw_at lw_m1 23 rfl) rfl
theorem q173 : (Jvm.Cond.initialized "java/lang/Integer") ∈ lw_all := lw_g (lw_at lw_m1 24 rfl) rfl
theorem q174 : (Jvm.Cond.initialized "java/lang/System") ∈ lw_all := lw_g (lw_at lw_m1 25 rfl) rfl
theorem q175 : (Jvm.Cond.initialized "CoinJudge$Block") ∈ lw_all := lw_g (lw_at lw_m1 26 rfl) rfl
theorem q176 : (Jvm.Cond.initialized "java/lang/Enum") ∈ lw_all := lw_g (lw_at lw_m1 27 rfl) rfl
theorem q177 : (Jvm.Cond.initialized "CoinJudge$State") ∈ lw_all := lw_g (lw_at lw_m1 28 rfl) rfl
theorem q178 : (Jvm.Cond.initialized "java/util/AbstractCollection") ∈ lw_all := lw_g (lw_at lw_m1 29 rfl) rfl
theorem q179 : (Jvm.Cond.initialized "java/util/AbstractList") ∈ lw_all := lw_g (lw_at lw_m1 30 rfl) rfl
theorem q180 : (Jvm.Cond.initialized "java/util/ArrayList") ∈ lw_all := lw_g (lw_at lw_m1 31 rfl) rfl
theorem q181 : (Jvm.Cond.initialized "CoinJudge$Source") ∈ lw_all := lw_g (lw_at lw_m1 32 rfl) rfl
theorem q182 : (Jvm.Cond.initialized "CoinJudge$Broken") ∈ lw_all := lw_g (lw_at lw_m1 33 rfl) rfl
theorem q183 : (Jvm.Cond.initialized "CoinJudge$Tx") ∈ lw_all := lw_g (lw_at lw_m1 34 rfl) rfl
theorem q184 : (Jvm.Cond.initialized "CoinJudge$Input") ∈ lw_all := lw_g (lw_at lw_m1 35 rfl) rfl
theorem q185 : (Jvm.Cond.initialized "CoinJudge$Output") ∈ lw_all := lw_g (lw_at lw_m1 36 rfl) rfl
theorem q186 : (Jvm.Cond.initialized "CoinJudge$Refused") ∈ lw_all := lw_g (lw_at lw_m1 37 rfl) rfl
theorem q187 : (Jvm.Cond.initialized "CoinJudge$Element") ∈ lw_all := lw_g (lw_at lw_m1 38 rfl) rfl
theorem q188 : (Jvm.Cond.initialized "jdk/internal/util/ArraysSupport") ∈ lw_all := lw_g (lw_at lw_m1 39 rfl) rfl
theorem q189 : (Jvm.Cond.initialized "java/util/Arrays") ∈ lw_all := lw_g (lw_at lw_m1 40 rfl) rfl
theorem q190 : (Jvm.Cond.initialized "CoinJudge$Coin") ∈ lw_all := lw_g (lw_at lw_m1 41 rfl) rfl
theorem q191 : (Jvm.Cond.initialized "java/util/Objects") ∈ lw_all := lw_g (lw_at lw_m1 42 rfl) rfl
theorem q192 : (Jvm.Cond.initialized "CoinJudgeModel") ∈ lw_all := lw_g (lw_at lw_m1 43 rfl) rfl
theorem q193 : (Jvm.Cond.initialized "CoinJudgeModel$Point") ∈ lw_all := lw_g (lw_at lw_m1 44 rfl) rfl
theorem q194 : (Jvm.Cond.initialized "CoinJudgeModel$Parsed") ∈ lw_all := lw_g (lw_at lw_m1 45 rfl) rfl
theorem q195 : (Jvm.Cond.initialized "CoinJudgeModel$Ring") ∈ lw_all := lw_g (lw_at lw_m1 46 rfl) rfl
theorem q196 : (Jvm.Cond.initialized "CoinJudgeModel$Block") ∈ lw_all := lw_g (lw_at lw_m1 47 rfl) rfl
theorem q197 : (Jvm.Cond.initialized "java/lang/ArrayIndexOutOfBoundsException") ∈ lw_all := lw_g (lw_at lw_m1 48 rfl) rfl
theorem q198 : (Jvm.Cond.initialized "java/lang/IllegalArgumentException") ∈ lw_all := lw_g (lw_at lw_m1 49 rfl) rfl
theorem q199 : (Jvm.Cond.initialized "java/lang/IllegalStateException") ∈ lw_all := lw_g (lw_at lw_m1 50 rfl) rfl
theorem q200 : (Jvm.Cond.initialized "java/lang/UnsupportedOperationException") ∈ lw_all := lw_g (lw_at lw_m1 51 rfl) rfl
theorem q201 : (Jvm.Cond.classLink "CoinJudgeLaw" (8 : Nat) "CoinJudge") ∈ lw_all := lw_g (lw_at lw_m1 52 rfl) rfl
theorem q202 : (Jvm.Cond.instantiable "CoinJudge" (18 : Nat)) ∈ lw_all := lw_g (lw_at lw_m1 53 rfl) rfl
theorem q203 : (Jvm.Cond.methodLink "CoinJudgeLaw" (80 : Nat) ({ cls := "CoinJudge", name := "<init>", desc := "()V" } : Jvm.MethodName)) ∈ lw_all := lw_g (lw_at lw_m1 54 rfl) rfl
theorem q204 : (Jvm.Cond.instanceMethod ({ cls := "CoinJudge", name := "<init>", desc := "()V" } : Jvm.MethodName)) ∈ lw_all := lw_g (lw_at lw_m1 55 rfl) rfl
theorem q205 : (Jvm.Cond.code ({ cls := "CoinJudge", name := "<init>", desc := "()V" } : Jvm.MethodName) prog_1_method_1_code (3 : Nat) (Option.none : Option Jvm.ClassFile.FieldType)) ∈ lw_all := lw_g (lw_at lw_m1 56 rfl) rfl
theorem q206 : (Jvm.Cond.methodLink "CoinJudge" (1 : Nat) ({ cls := "java/lang/Object", name := "<init>", desc := "()V" } : Jvm.MethodName)) ∈ lw_all := lw_g (lw_at lw_m1 57 rfl) rfl
theorem q207 : (Jvm.Cond.instanceMethod ({ cls := "java/lang/Object", name := "<init>", desc := "()V" } : Jvm.MethodName)) ∈ lw_all := lw_g (lw_at lw_m1 58 rfl) rfl
theorem q208 : (Jvm.Cond.code ({ cls := "java/lang/Object", name := "<init>", desc := "()V" } : Jvm.MethodName) object_method_1_code (1 : Nat) (Option.none : Option Jvm.ClassFile.FieldType)) ∈ lw_all := lw_g (lw_at lw_m1 59 rfl) rfl
theorem q209 : (Jvm.Cond.classLink "CoinJudge" (7 : Nat) "CoinJudge$Digests") ∈ lw_all := lw_g (lw_at lw_m1 60 rfl) rfl
theorem q210 : (Jvm.Cond.instantiable "CoinJudge$Digests" (15 : Nat)) ∈ lw_all := lw_g (lw_at lw_m1 61 rfl) rfl
theorem q211 : (Jvm.Cond.methodLink "CoinJudge" (9 : Nat) ({ cls := "CoinJudge$Digests", name := "<init>", desc := "()V" } : Jvm.MethodName)) ∈ lw_all := lw_g (lw_at lw_m1 62 rfl) rfl
theorem q212 : (Jvm.Cond.instanceMethod ({ cls := "CoinJudge$Digests", name := "<init>", desc := "()V" } : Jvm.MethodName)) ∈ lw_all := lw_g (lw_at lw_m1 63 rfl) rfl
theorem q213 : (Jvm.Cond.code ({ cls := "CoinJudge$Digests", name := "<init>", desc := "()V" } : Jvm.MethodName) prog_8_method_1_code (3 : Nat) (Option.none : Option Jvm.ClassFile.FieldType)) ∈ lw_all := lw_g (lw_at lw_m1 64 rfl) rfl
theorem q214 : (Jvm.Cond.methodLink "CoinJudge$Digests" (1 : Nat) ({ cls := "java/lang/Object", name := "<init>", desc := "()V" } : Jvm.MethodName)) ∈ lw_all := lw_g (lw_at lw_m1 65 rfl) rfl
theorem q215 : (Jvm.Cond.constant "CoinJudge$Digests" (50 : Nat) (1518500249 : Int32)) ∈ lw_all := lw_g (lw_at lw_m1 66 rfl) rfl
theorem q216 : (Jvm.Cond.constant "CoinJudge$Digests" (51 : Nat) (1859775393 : Int32)) ∈ lw_all := lw_g (lw_at lw_m1 67 rfl) rfl
theorem q217 : (Jvm.Cond.constant "CoinJudge$Digests" (52 : Nat) (-1894007588 : Int32)) ∈ lw_all := lw_g (lw_at lw_m1 68 rfl) rfl
theorem q218 : (Jvm.Cond.constant "CoinJudge$Digests" (53 : Nat) (-1454113458 : Int32)) ∈ lw_all := lw_g (lw_at lw_m1 69 rfl) rfl
theorem q219 : (Jvm.Cond.constant "CoinJudge$Digests" (57 : Nat) (1352829926 : Int32)) ∈ lw_all := lw_g (lw_at lw_m1 70 rfl) rfl
theorem q220 : (Jvm.Cond.constant "CoinJudge$Digests" (58 : Nat) (1548603684 : Int32)) ∈ lw_all := lw_g (lw_at lw_m1 71 rfl) rfl
theorem q221 : (Jvm.Cond.constant "CoinJudge$Digests" (59 : Nat) (1836072691 : Int32)) ∈ lw_all := lw_g (lw_at lw_m1 72 rfl) rfl
theorem q222 : (Jvm.Cond.constant "CoinJudge$Digests" (60 : Nat) (2053994217 : Int32)) ∈ lw_all := lw_g (lw_at lw_m1 73 rfl) rfl
theorem q223 : (Jvm.Cond.methodLink "CoinJudge$Digests" (64 : Nat) ({ cls := "CoinJudge$Digests", name := "prime", desc := "(I)Z" } : Jvm.MethodName)) ∈ lw_all := lw_g (lw_at lw_m1 74 rfl) rfl
theorem q224 : (Jvm.Cond.static ({ cls := "CoinJudge$Digests", name := "prime", desc := "(I)Z" } : Jvm.MethodName)) ∈ lw_all := lw_g (lw_at lw_m1 75 rfl) rfl
theorem q225 : (Jvm.Cond.code ({ cls := "CoinJudge$Digests", name := "prime", desc := "(I)Z" } : Jvm.MethodName) prog_8_method_2_code (2 : Nat) (Option.some Jvm.ClassFile.FieldType.boolean)) ∈ lw_all := lw_g (lw_at lw_m1 76 rfl) rfl
theorem q226 : (Jvm.Cond.methodLink "CoinJudge$Digests" (68 : Nat) ({ cls := "CoinJudge$Digests", name := "root", desc := "(II)I" } : Jvm.MethodName)) ∈ lw_all := lw_g (lw_at lw_m1 77 rfl) rfl
theorem q227 : (Jvm.Cond.static ({ cls := "CoinJudge$Digests", name := "root", desc := "(II)I" } : Jvm.MethodName)) ∈ lw_all := lw_g (lw_at lw_m1 78 rfl) rfl
theorem q228 : (Jvm.Cond.code ({ cls := "CoinJudge$Digests", name := "root", desc := "(II)I" } : Jvm.MethodName) prog_8_method_3_code (8 : Nat) (Option.some Jvm.ClassFile.FieldType.int)) ∈ lw_all := lw_g (lw_at lw_m1 79 rfl) rfl
theorem q229 : (Jvm.Cond.constantLong "CoinJudge$Digests" (72 : Nat) (137438953472 : Int64)) ∈ lw_all := lw_g (lw_at lw_m1 80 rfl) rfl
theorem q230 : (Jvm.Cond.methodLink "CoinJudge$Digests" (74 : Nat) ({ cls := "CoinJudge$Digests", name := "above", desc := "(JII)Z" } : Jvm.MethodName)) ∈ lw_all := lw_g (lw_at lw_m1 81 rfl) rfl
theorem q231 : (Jvm.Cond.static ({ cls := "CoinJudge$Digests", name := "above", desc := "(JII)Z" } : Jvm.MethodName)) ∈ lw_all := lw_g (lw_at lw_m1 82 rfl) rfl
theorem q232 : (Jvm.Cond.code ({ cls := "CoinJudge$Digests", name := "above", desc := "(JII)Z" } : Jvm.MethodName) prog_8_method_4_code (10 : Nat) (Option.some Jvm.ClassFile.FieldType.boolean)) ∈ lw_all := lw_g (lw_at lw_m1 83 rfl) rfl
theorem q233 : (Jvm.Cond.methodLink "CoinJudge$Digests" (78 : Nat) ({ cls := "java/lang/Math", name := "multiplyHigh", desc := "(JJ)J" } : Jvm.MethodName)) ∈ lw_all := lw_g (lw_at lw_m1 84 rfl) rfl
theorem q234 : (Jvm.Cond.static ({ cls := "java/lang/Math", name := "multiplyHigh", desc := "(JJ)J" } : Jvm.MethodName)) ∈ lw_all := lw_g (lw_at lw_m1 85 rfl) rfl
theorem q235 : (Jvm.Cond.code ({ cls := "java/lang/Math", name := "multiplyHigh", desc := "(JJ)J" } : Jvm.MethodName) prog_42_method_45_code (20 : Nat) (Option.some Jvm.ClassFile.FieldType.long)) ∈ lw_all := lw_g (lw_at lw_m1 86 rfl) rfl
theorem q236 : (Jvm.Cond.constantLong "java/lang/Math" (138 : Nat) (4294967295 : Int64)) ∈ lw_all := lw_g (lw_at lw_m1 87 rfl) rfl
theorem q237 : (Jvm.Cond.fieldLink "CoinJudge$Digests" (7 : Nat) "CoinJudge$Digests" "roundConstants" "[I") ∈ lw_all := lw_g (lw_at lw_m1 88 rfl) rfl
theorem q238 : (Jvm.Cond.fieldLink "CoinJudge$Digests" (13 : Nat) "CoinJudge$Digests" "begin" "[I") ∈ lw_all := lw_g (lw_at lw_m1 89 rfl) rfl
theorem q239 : (Jvm.Cond.fieldLink "CoinJudge$Digests" (16 : Nat) "CoinJudge$Digests" "state" "[I") ∈ lw_all := lw_g (lw_at lw_m1 90 rfl) rfl
theorem q240 : (Jvm.Cond.fieldLink "CoinJudge$Digests" (19 : Nat) "CoinJudge$Digests" "words" "[I") ∈ lw_all := lw_g (lw_at lw_m1 91 rfl) rfl
theorem q241 : (Jvm.Cond.fieldLink "CoinJudge$Digests" (22 : Nat) "CoinJudge$Digests" "ripe" "[I") ∈ lw_all := lw_g (lw_at lw_m1 92 rfl) rfl
theorem q242 : (Jvm.Cond.fieldLink "CoinJudge$Digests" (25 : Nat) "CoinJudge$Digests" "left" "[I") ∈ lw_all := lw_g (lw_at lw_m1 93 rfl) rfl
theorem q243 : (Jvm.Cond.fieldLink "CoinJudge$Digests" (28 : Nat) "CoinJudge$Digests" "right" "[I") ∈ lw_all := lw_g (lw_at lw_m1 94 rfl) rfl
theorem q244 : (Jvm.Cond.fieldLink "CoinJudge$Digests" (31 : Nat) "CoinJudge$Digests" "block" "[B") ∈ lw_all := lw_g (lw_at lw_m1 95 rfl) rfl
theorem q245 : (Jvm.Cond.fieldLink "CoinJudge$Digests" (35 : Nat) "CoinJudge$Digests" "between" "[B") ∈ lw_all := lw_g (lw_at lw_m1 96 rfl) rfl
theorem q246 : (Jvm.Cond.fieldLink "CoinJudge$Digests" (38 : Nat) "CoinJudge$Digests" "order" "[I") ∈ lw_all := lw_g (lw_at lw_m1 97 rfl) rfl
theorem q247 : (Jvm.Cond.fieldLink "CoinJudge$Digests" (41 : Nat) "CoinJudge$Digests" "other" "[I") ∈ lw_all := lw_g (lw_at lw_m1 98 rfl) rfl
theorem q248 : (Jvm.Cond.fieldLink "CoinJudge$Digests" (44 : Nat) "CoinJudge$Digests" "turns" "[I") ∈ lw_all := lw_g (lw_at lw_m1 99 rfl) rfl
theorem q249 : (Jvm.Cond.fieldLink "CoinJudge$Digests" (47 : Nat) "CoinJudge$Digests" "otherTurns" "[I") ∈ lw_all := lw_g (lw_at lw_m1 100 rfl) rfl
theorem q250 : (Jvm.Cond.fieldLink "CoinJudge$Digests" (54 : Nat) "CoinJudge$Digests" "adds" "[I") ∈ lw_all := lw_g (lw_at lw_m1 101 rfl) rfl
theorem q251 : (Jvm.Cond.fieldLink "CoinJudge$Digests" (61 : Nat) "CoinJudge$Digests" "otherAdds" "[I") ∈ lw_all := lw_g (lw_at lw_m1 102 rfl) rfl
theorem q252 : (Jvm.Cond.laysFinal "CoinJudge$Digests" "CoinJudge$Digests" "roundConstants" "[I") ∈ lw_all := lw_g (lw_at lw_m1 103 rfl) rfl
theorem q253 : (Jvm.Cond.soleField "CoinJudge$Digests" "roundConstants") ∈ lw_all := lw_g (lw_at lw_m1 104 rfl) rfl
theorem q254 : (Jvm.Cond.laysFinal "CoinJudge$Digests" "CoinJudge$Digests" "begin" "[I") ∈ lw_all := lw_g (lw_at lw_m1 105 rfl) rfl
theorem q255 : (Jvm.Cond.soleField "CoinJudge$Digests" "begin") ∈ lw_all := lw_g (lw_at lw_m1 106 rfl) rfl
theorem q256 : (Jvm.Cond.laysFinal "CoinJudge$Digests" "CoinJudge$Digests" "state" "[I") ∈ lw_all := lw_g (lw_at lw_m1 107 rfl) rfl
theorem q257 : (Jvm.Cond.soleField "CoinJudge$Digests" "state") ∈ lw_all := lw_g (lw_at lw_m1 108 rfl) rfl
theorem q258 : (Jvm.Cond.laysFinal "CoinJudge$Digests" "CoinJudge$Digests" "words" "[I") ∈ lw_all := lw_g (lw_at lw_m1 109 rfl) rfl
theorem q259 : (Jvm.Cond.soleField "CoinJudge$Digests" "words") ∈ lw_all := lw_g (lw_at lw_m1 110 rfl) rfl
theorem q260 : (Jvm.Cond.laysFinal "CoinJudge$Digests" "CoinJudge$Digests" "ripe" "[I") ∈ lw_all := lw_g (lw_at lw_m1 111 rfl) rfl
theorem q261 : (Jvm.Cond.soleField "CoinJudge$Digests" "ripe") ∈ lw_all := lw_g (lw_at lw_m1 112 rfl) rfl
theorem q262 : (Jvm.Cond.laysFinal "CoinJudge$Digests" "CoinJudge$Digests" "left" "[I") ∈ lw_all := lw_g (lw_at lw_m1 113 rfl) rfl
theorem q263 : (Jvm.Cond.soleField "CoinJudge$Digests" "left") ∈ lw_all := lw_g (lw_at lw_m1 114 rfl) rfl
theorem q264 : (Jvm.Cond.laysFinal "CoinJudge$Digests" "CoinJudge$Digests" "right" "[I") ∈ lw_all := lw_g (lw_at lw_m1 115 rfl) rfl
theorem q265 : (Jvm.Cond.soleField "CoinJudge$Digests" "right") ∈ lw_all := lw_g (lw_at lw_m1 116 rfl) rfl
theorem q266 : (Jvm.Cond.laysFinal "CoinJudge$Digests" "CoinJudge$Digests" "block" "[B") ∈ lw_all := lw_g (lw_at lw_m1 117 rfl) rfl
theorem q267 : (Jvm.Cond.soleField "CoinJudge$Digests" "block") ∈ lw_all := lw_g (lw_at lw_m1 118 rfl) rfl
theorem q268 : (Jvm.Cond.laysFinal "CoinJudge$Digests" "CoinJudge$Digests" "between" "[B") ∈ lw_all := lw_g (lw_at lw_m1 119 rfl) rfl
theorem q269 : (Jvm.Cond.soleField "CoinJudge$Digests" "between") ∈ lw_all := lw_g (lw_at lw_m1 120 rfl) rfl
theorem q270 : (Jvm.Cond.laysFinal "CoinJudge$Digests" "CoinJudge$Digests" "order" "[I") ∈ lw_all := lw_g (lw_at lw_m1 121 rfl) rfl
theorem q271 : (Jvm.Cond.soleField "CoinJudge$Digests" "order") ∈ lw_all := lw_g (lw_at lw_m1 122 rfl) rfl
theorem q272 : (Jvm.Cond.laysFinal "CoinJudge$Digests" "CoinJudge$Digests" "other" "[I") ∈ lw_all := lw_g (lw_at lw_m1 123 rfl) rfl
theorem q273 : (Jvm.Cond.soleField "CoinJudge$Digests" "other") ∈ lw_all := lw_g (lw_at lw_m1 124 rfl) rfl
theorem q274 : (Jvm.Cond.laysFinal "CoinJudge$Digests" "CoinJudge$Digests" "turns" "[I") ∈ lw_all := lw_g (lw_at lw_m1 125 rfl) rfl
theorem q275 : (Jvm.Cond.soleField "CoinJudge$Digests" "turns") ∈ lw_all := lw_g (lw_at lw_m1 126 rfl) rfl
theorem q276 : (Jvm.Cond.laysFinal "CoinJudge$Digests" "CoinJudge$Digests" "otherTurns" "[I") ∈ lw_all := lw_g (lw_at lw_m1 127 rfl) rfl
theorem q277 : (Jvm.Cond.soleField "CoinJudge$Digests" "otherTurns") ∈ lw_all := lw_g (lw_at lw_m1 128 rfl) rfl
theorem q278 : (Jvm.Cond.laysFinal "CoinJudge$Digests" "CoinJudge$Digests" "adds" "[I") ∈ lw_all := lw_g (lw_at lw_m1 129 rfl) rfl
theorem q279 : (Jvm.Cond.soleField "CoinJudge$Digests" "adds") ∈ lw_all := lw_g (lw_at lw_m1 130 rfl) rfl
theorem q280 : (Jvm.Cond.laysFinal "CoinJudge$Digests" "CoinJudge$Digests" "otherAdds" "[I") ∈ lw_all := lw_g (lw_at lw_m1 131 rfl) rfl
theorem q281 : (Jvm.Cond.soleField "CoinJudge$Digests" "otherAdds") ∈ lw_all := lw_g (lw_at lw_m1 132 rfl) rfl
theorem q282 : (Jvm.Cond.superclass "CoinJudge$Digests" "java/lang/Object") ∈ lw_all := lw_g (lw_at lw_m1 133 rfl) rfl
theorem q283 : (Jvm.Cond.arrayClass Jvm.ClassFile.FieldType.int) ∈ lw_all := lw_g (lw_at lw_m1 134 rfl) rfl
theorem q284 : (Jvm.Cond.arrayClass Jvm.ClassFile.FieldType.byte) ∈ lw_all := lw_g (lw_at lw_m1 135 rfl) rfl
theorem q285 : (Jvm.Cond.classLink "CoinJudge" (16 : Nat) "CoinJudge$Curve") ∈ lw_all := lw_g (lw_at lw_m1 136 rfl) rfl
theorem q286 : (Jvm.Cond.instantiable "CoinJudge$Curve" (18 : Nat)) ∈ lw_all := lw_g (lw_at lw_m1 137 rfl) rfl
theorem q287 : (Jvm.Cond.methodLink "CoinJudge" (18 : Nat) ({ cls := "CoinJudge$Curve", name := "<init>", desc := "()V" } : Jvm.MethodName)) ∈ lw_all := lw_g (lw_at lw_m1 138 rfl) rfl
theorem q288 : (Jvm.Cond.instanceMethod ({ cls := "CoinJudge$Curve", name := "<init>", desc := "()V" } : Jvm.MethodName)) ∈ lw_all := lw_g (lw_at lw_m1 139 rfl) rfl
theorem q289 : (Jvm.Cond.code ({ cls := "CoinJudge$Curve", name := "<init>", desc := "()V" } : Jvm.MethodName) prog_7_method_1_code (1 : Nat) (Option.none : Option Jvm.ClassFile.FieldType)) ∈ lw_all := lw_g (lw_at lw_m1 140 rfl) rfl
theorem q290 : (Jvm.Cond.methodLink "CoinJudge$Curve" (1 : Nat) ({ cls := "java/lang/Object", name := "<init>", desc := "()V" } : Jvm.MethodName)) ∈ lw_all := lw_g (lw_at lw_m1 141 rfl) rfl
theorem q291 : (Jvm.Cond.classLink "CoinJudge$Curve" (7 : Nat) "CoinJudge$Ring") ∈ lw_all := lw_g (lw_at lw_m1 142 rfl) rfl
theorem q292 : (Jvm.Cond.instantiable "CoinJudge$Ring" (9 : Nat)) ∈ lw_all := lw_g (lw_at lw_m1 143 rfl) rfl
theorem q293 : (Jvm.Cond.classLink "CoinJudge$Curve" (9 : Nat) "CoinJudge$Big") ∈ lw_all := lw_g (lw_at lw_m1 144 rfl) rfl
theorem q294 : (Jvm.Cond.instantiable "CoinJudge$Big" (1 : Nat)) ∈ lw_all := lw_g (lw_at lw_m1 145 rfl) rfl
theorem q295 : (Jvm.Cond.methodLinkNest "CoinJudge$Curve" (11 : Nat) ({ cls := "CoinJudge$Big", name := "<init>", desc := "()V" } : Jvm.MethodName) "CoinJudge") ∈ lw_tbl := lw_at lw_m1 146 rfl
theorem q296 : (Jvm.Cond.instanceMethod ({ cls := "CoinJudge$Big", name := "<init>", desc := "()V" } : Jvm.MethodName)) ∈ lw_all := lw_g (lw_at lw_m1 147 rfl) rfl
theorem q297 : (Jvm.Cond.code ({ cls := "CoinJudge$Big", name := "<init>", desc := "()V" } : Jvm.MethodName) prog_2_method_1_code (1 : Nat) (Option.none : Option Jvm.ClassFile.FieldType)) ∈ lw_all := lw_g (lw_at lw_m1 148 rfl) rfl
theorem q298 : (Jvm.Cond.methodLink "CoinJudge$Big" (3 : Nat) ({ cls := "java/lang/Object", name := "<init>", desc := "()V" } : Jvm.MethodName)) ∈ lw_all := lw_g (lw_at lw_m1 149 rfl) rfl
theorem q299 : (Jvm.Cond.fieldLink "CoinJudge$Big" (9 : Nat) "CoinJudge$Big" "w" "[I") ∈ lw_all := lw_g (lw_at lw_m1 150 rfl) rfl
theorem q300 : (Jvm.Cond.fieldLinkNest "CoinJudge" (177 : Nat) "CoinJudge$Big" "w" "[I" "CoinJudge") ∈ lw_tbl := lw_at lw_m1 151 rfl
theorem q301 : (Jvm.Cond.fieldLinkNest "CoinJudge$Ring" (59 : Nat) "CoinJudge$Big" "w" "[I" "CoinJudge") ∈ lw_tbl := lw_at lw_m1 152 rfl
theorem q302 : (Jvm.Cond.fieldLinkNest "CoinJudge$Curve" (162 : Nat) "CoinJudge$Big" "w" "[I" "CoinJudge") ∈ lw_tbl := lw_at lw_m1 153 rfl
theorem q303 : (Jvm.Cond.laysFinal "CoinJudge$Big" "CoinJudge$Big" "w" "[I") ∈ lw_all := lw_g (lw_at lw_m1 154 rfl) rfl
theorem q304 : (Jvm.Cond.soleField "CoinJudge$Big" "w") ∈ lw_all := lw_g (lw_at lw_m1 155 rfl) rfl
theorem q305 : (Jvm.Cond.superclass "CoinJudge$Big" "java/lang/Object") ∈ lw_all := lw_g (lw_at lw_m1 156 rfl) rfl
theorem q306 : (Jvm.Cond.stringRef "CoinJudge$Curve" (12 : Nat) "FFFFFFFFFFFFFFFFFFFFFFFFFFFFFFFFFFFFFFFFFFFFFFFFFFFFFFFEFFFFFC2F") ∈ lw_tbl := lw_at lw_m1 157 rfl
theorem q307 : (Jvm.Cond.methodLink "CoinJudge$Curve" (14 : Nat) ({ cls := "CoinJudge$Big", name := "hex", desc := "(Ljava/lang/String;)LCoinJudge$Big;" } : Jvm.MethodName)) ∈ lw_all := lw_g (lw_at lw_m1 158 rfl) rfl
theorem q308 : (Jvm.Cond.instanceMethod ({ cls := "CoinJudge$Big", name := "hex", desc := "(Ljava/lang/String;)LCoinJudge$Big;" } : Jvm.MethodName)) ∈ lw_all := lw_g (lw_at lw_m1 159 rfl) rfl
theorem q309 : (Jvm.Cond.selects "CoinJudge$Big" ({ cls := "CoinJudge$Big", name := "hex", desc := "(Ljava/lang/String;)LCoinJudge$Big;" } : Jvm.MethodName) ({ cls := "CoinJudge$Big", name := "hex", desc := "(Ljava/lang/String;)LCoinJudge$Big;" } : Jvm.MethodName)) ∈ lw_all := lw_g (lw_at lw_m1 160 rfl) rfl
theorem q310 : (Jvm.Cond.code ({ cls := "CoinJudge$Big", name := "hex", desc := "(Ljava/lang/String;)LCoinJudge$Big;" } : Jvm.MethodName) prog_2_method_15_code (4 : Nat) (Option.some (Jvm.ClassFile.FieldType.object "CoinJudge$Big"))) ∈ lw_all := lw_g (lw_at lw_m1 161 rfl) rfl
theorem q311 : (Jvm.Cond.methodLink "CoinJudge$Big" (15 : Nat) ({ cls := "CoinJudge$Big", name := "zero", desc := "()LCoinJudge$Big;" } : Jvm.MethodName)) ∈ lw_all := lw_g (lw_at lw_m1 162 rfl) rfl
theorem q312 : (Jvm.Cond.instanceMethod ({ cls := "CoinJudge$Big", name := "zero", desc := "()LCoinJudge$Big;" } : Jvm.MethodName)) ∈ lw_all := lw_g (lw_at lw_m1 163 rfl) rfl
theorem q313 : (Jvm.Cond.selects "CoinJudge$Big" ({ cls := "CoinJudge$Big", name := "zero", desc := "()LCoinJudge$Big;" } : Jvm.MethodName) ({ cls := "CoinJudge$Big", name := "zero", desc := "()LCoinJudge$Big;" } : Jvm.MethodName)) ∈ lw_all := lw_g (lw_at lw_m1 164 rfl) rfl
theorem q314 : (Jvm.Cond.code ({ cls := "CoinJudge$Big", name := "zero", desc := "()LCoinJudge$Big;" } : Jvm.MethodName) prog_2_method_3_code (2 : Nat) (Option.some (Jvm.ClassFile.FieldType.object "CoinJudge$Big"))) ∈ lw_all := lw_g (lw_at lw_m1 165 rfl) rfl
theorem q315 : (Jvm.Cond.methodLink "CoinJudge$Big" (27 : Nat) ({ cls := "java/lang/String", name := "length", desc := "()I" } : Jvm.MethodName)) ∈ lw_all := lw_g (lw_at lw_m1 166 rfl) rfl
theorem q316 : (Jvm.Cond.instanceMethod ({ cls := "java/lang/String", name := "length", desc := "()I" } : Jvm.MethodName)) ∈ lw_all := lw_g (lw_at lw_m1 167 rfl) rfl
theorem q317 : (Jvm.Cond.selects "java/lang/String" ({ cls := "java/lang/String", name := "length", desc := "()I" } : Jvm.MethodName) ({ cls := "java/lang/String", name := "length", desc := "()I" } : Jvm.MethodName)) ∈ lw_all := lw_g (lw_at lw_m1 168 rfl) rfl
theorem q318 : (Jvm.Cond.code ({ cls := "java/lang/String", name := "length", desc := "()I" } : Jvm.MethodName) prog_44_method_54_code (1 : Nat) (Option.some Jvm.ClassFile.FieldType.int)) ∈ lw_all := lw_g (lw_at lw_m1 169 rfl) rfl
theorem q319 : (Jvm.Cond.methodLink "java/lang/String" (335 : Nat) ({ cls := "java/lang/String", name := "coder", desc := "()B" } : Jvm.MethodName)) ∈ lw_all := lw_g (lw_at lw_m1 170 rfl) rfl
theorem q320 : (Jvm.Cond.instanceMethod ({ cls := "java/lang/String", name := "coder", desc := "()B" } : Jvm.MethodName)) ∈ lw_all := lw_g (lw_at lw_m1 171 rfl) rfl
theorem q321 : (Jvm.Cond.selects "java/lang/String" ({ cls := "java/lang/String", name := "coder", desc := "()B" } : Jvm.MethodName) ({ cls := "java/lang/String", name := "coder", desc := "()B" } : Jvm.MethodName)) ∈ lw_all := lw_g (lw_at lw_m1 172 rfl) rfl
theorem q322 : (Jvm.Cond.code ({ cls := "java/lang/String", name := "coder", desc := "()B" } : Jvm.MethodName) prog_44_method_152_code (1 : Nat) (Option.some Jvm.ClassFile.FieldType.byte)) ∈ lw_all := lw_g (lw_at lw_m1 173 rfl) rfl
theorem q323 : (Jvm.Cond.fieldLink "java/lang/String" (38 : Nat) "java/lang/String" "COMPACT_STRINGS" "Z") ∈ lw_all := lw_g (lw_at lw_m1 174 rfl) rfl
theorem q324 : (Jvm.Cond.laysStatic "java/lang/String" "COMPACT_STRINGS" "Z") ∈ lw_tbl := lw_at lw_m1 175 rfl
theorem q325 : (Jvm.Cond.methodLink "CoinJudge$Big" (33 : Nat) ({ cls := "CoinJudge$Big", name := "up", desc := "()V" } : Jvm.MethodName)) ∈ lw_all := lw_g (lw_at lw_m1 176 rfl) rfl
theorem q326 : (Jvm.Cond.instanceMethod ({ cls := "CoinJudge$Big", name := "up", desc := "()V" } : Jvm.MethodName)) ∈ lw_all := lw_g (lw_at lw_m1 177 rfl) rfl
theorem q327 : (Jvm.Cond.selects "CoinJudge$Big" ({ cls := "CoinJudge$Big", name := "up", desc := "()V" } : Jvm.MethodName) ({ cls := "CoinJudge$Big", name := "up", desc := "()V" } : Jvm.MethodName)) ∈ lw_all := lw_g (lw_at lw_m1 178 rfl) rfl
theorem q328 : (Jvm.Cond.code ({ cls := "CoinJudge$Big", name := "up", desc := "()V" } : Jvm.MethodName) prog_2_method_10_code (2 : Nat) (Option.none : Option Jvm.ClassFile.FieldType)) ∈ lw_all := lw_g (lw_at lw_m1 179 rfl) rfl
theorem q329 : (Jvm.Cond.methodLink "CoinJudge$Big" (36 : Nat) ({ cls := "java/lang/String", name := "charAt", desc := "(I)C" } : Jvm.MethodName)) ∈ lw_all := lw_g (lw_at lw_m1 180 rfl) rfl
theorem q330 : (Jvm.Cond.instanceMethod ({ cls := "java/lang/String", name := "charAt", desc := "(I)C" } : Jvm.MethodName)) ∈ lw_all := lw_g (lw_at lw_m1 181 rfl) rfl
theorem q331 : (Jvm.Cond.selects "java/lang/String" ({ cls := "java/lang/String", name := "charAt", desc := "(I)C" } : Jvm.MethodName) ({ cls := "java/lang/String", name := "charAt", desc := "(I)C" } : Jvm.MethodName)) ∈ lw_all := lw_g (lw_at lw_m1 182 rfl) rfl
theorem q332 : (Jvm.Cond.code ({ cls := "java/lang/String", name := "charAt", desc := "(I)C" } : Jvm.MethodName) prog_44_method_56_code (2 : Nat) (Option.some Jvm.ClassFile.FieldType.char)) ∈ lw_all := lw_g (lw_at lw_m1 183 rfl) rfl
theorem q333 : (Jvm.Cond.methodLink "java/lang/String" (492 : Nat) ({ cls := "java/lang/String", name := "isLatin1", desc := "()Z" } : Jvm.MethodName)) ∈ lw_all := lw_g (lw_at lw_m1 184 rfl) rfl
theorem q334 : (Jvm.Cond.instanceMethod ({ cls := "java/lang/String", name := "isLatin1", desc := "()Z" } : Jvm.MethodName)) ∈ lw_all := lw_g (lw_at lw_m1 185 rfl) rfl
theorem q335 : (Jvm.Cond.selects "java/lang/String" ({ cls := "java/lang/String", name := "isLatin1", desc := "()Z" } : Jvm.MethodName) ({ cls := "java/lang/String", name := "isLatin1", desc := "()Z" } : Jvm.MethodName)) ∈ lw_all := lw_g (lw_at lw_m1 186 rfl) rfl
theorem q336 : (Jvm.Cond.code ({ cls := "java/lang/String", name := "isLatin1", desc := "()Z" } : Jvm.MethodName) prog_44_method_154_code (1 : Nat) (Option.some Jvm.ClassFile.FieldType.boolean)) ∈ lw_all := lw_g (lw_at lw_m1 187 rfl) rfl
theorem q337 : (Jvm.Cond.methodLink "java/lang/String" (495 : Nat) ({ cls := "java/lang/StringLatin1", name := "charAt", desc := "([BI)C" } : Jvm.MethodName)) ∈ lw_all := lw_g (lw_at lw_m1 188 rfl) rfl
theorem q338 : (Jvm.Cond.static ({ cls := "java/lang/StringLatin1", name := "charAt", desc := "([BI)C" } : Jvm.MethodName)) ∈ lw_all := lw_g (lw_at lw_m1 189 rfl) rfl
theorem q339 : (Jvm.Cond.code ({ cls := "java/lang/StringLatin1", name := "charAt", desc := "([BI)C" } : Jvm.MethodName) prog_45_method_2_code (2 : Nat) (Option.some Jvm.ClassFile.FieldType.char)) ∈ lw_all := lw_g (lw_at lw_m1 190 rfl) rfl
theorem q340 : (Jvm.Cond.methodLink "java/lang/StringLatin1" (9 : Nat) ({ cls := "java/lang/String", name := "checkIndex", desc := "(II)V" } : Jvm.MethodName)) ∈ lw_all := lw_g (lw_at lw_m1 191 rfl) rfl
theorem q341 : (Jvm.Cond.static ({ cls := "java/lang/String", name := "checkIndex", desc := "(II)V" } : Jvm.MethodName)) ∈ lw_all := lw_g (lw_at lw_m1 192 rfl) rfl
theorem q342 : (Jvm.Cond.code ({ cls := "java/lang/String", name := "checkIndex", desc := "(II)V" } : Jvm.MethodName) prog_44_method_155_code (2 : Nat) (Option.none : Option Jvm.ClassFile.FieldType)) ∈ lw_all := lw_g (lw_at lw_m1 193 rfl) rfl
theorem q343 : (Jvm.Cond.fieldLink "java/lang/String" (1053 : Nat) "jdk/internal/util/Preconditions" "SIOOBE_FORMATTER" "Ljava/util/function/BiFunction;") ∈ lw_all := lw_g (lw_at lw_m1 194 rfl) rfl
theorem q344 : (Jvm.Cond.laysStatic "jdk/internal/util/Preconditions" "SIOOBE_FORMATTER" "Ljava/util/function/BiFunction;") ∈ lw_tbl := lw_at lw_m1 195 rfl
theorem q345 : (Jvm.Cond.methodLink "java/lang/String" (1059 : Nat) ({ cls := "jdk/internal/util/Preconditions", name := "checkIndex", desc := "(IILjava/util/function/BiFunction;)I" } : Jvm.MethodName)) ∈ lw_all := lw_g (lw_at lw_m1 196 rfl) rfl
theorem q346 : (Jvm.Cond.static ({ cls := "jdk/internal/util/Preconditions", name := "checkIndex", desc := "(IILjava/util/function/BiFunction;)I" } : Jvm.MethodName)) ∈ lw_all := lw_g (lw_at lw_m1 197 rfl) rfl
theorem q347 : (Jvm.Cond.code ({ cls := "jdk/internal/util/Preconditions", name := "checkIndex", desc := "(IILjava/util/function/BiFunction;)I" } : Jvm.MethodName) prog_60_method_11_code (3 : Nat) (Option.some Jvm.ClassFile.FieldType.int)) ∈ lw_all := lw_g (lw_at lw_m1 198 rfl) rfl
theorem q348 : (Jvm.Cond.methodLink "java/lang/String" (498 : Nat) ({ cls := "java/lang/StringUTF16", name := "charAt", desc := "([BI)C" } : Jvm.MethodName)) ∈ lw_all := lw_g (lw_at lw_m1 199 rfl) rfl
theorem q349 : (Jvm.Cond.static ({ cls := "java/lang/StringUTF16", name := "charAt", desc := "([BI)C" } : Jvm.MethodName)) ∈ lw_all := lw_g (lw_at lw_m1 200 rfl) rfl
theorem q350 : (Jvm.Cond.code ({ cls := "java/lang/StringUTF16", name := "charAt", desc := "([BI)C" } : Jvm.MethodName) prog_46_method_83_code (2 : Nat) (Option.some Jvm.ClassFile.FieldType.char)) ∈ lw_all := lw_g (lw_at lw_m1 201 rfl) rfl
theorem q351 : (Jvm.Cond.methodLink "java/lang/StringUTF16" (67 : Nat) ({ cls := "java/lang/StringUTF16", name := "checkIndex", desc := "(I[B)V" } : Jvm.MethodName)) ∈ lw_all := lw_g (lw_at lw_m1 202 rfl) rfl
theorem q352 : (Jvm.Cond.static ({ cls := "java/lang/StringUTF16", name := "checkIndex", desc := "(I[B)V" } : Jvm.MethodName)) ∈ lw_all := lw_g (lw_at lw_m1 203 rfl) rfl
theorem q353 : (Jvm.Cond.code ({ cls := "java/lang/StringUTF16", name := "checkIndex", desc := "(I[B)V" } : Jvm.MethodName) prog_46_method_91_code (2 : Nat) (Option.none : Option Jvm.ClassFile.FieldType)) ∈ lw_all := lw_g (lw_at lw_m1 204 rfl) rfl
theorem q354 : (Jvm.Cond.methodLink "java/lang/StringUTF16" (48 : Nat) ({ cls := "java/lang/StringUTF16", name := "length", desc := "([B)I" } : Jvm.MethodName)) ∈ lw_all := lw_g (lw_at lw_m1 205 rfl) rfl
theorem q355 : (Jvm.Cond.static ({ cls := "java/lang/StringUTF16", name := "length", desc := "([B)I" } : Jvm.MethodName)) ∈ lw_all := lw_g (lw_at lw_m1 206 rfl) rfl
theorem q356 : (Jvm.Cond.code ({ cls := "java/lang/StringUTF16", name := "length", desc := "([B)I" } : Jvm.MethodName) prog_46_method_6_code (1 : Nat) (Option.some Jvm.ClassFile.FieldType.int)) ∈ lw_all := lw_g (lw_at lw_m1 207 rfl) rfl
theorem q357 : (Jvm.Cond.methodLink "java/lang/StringUTF16" (414 : Nat) ({ cls := "java/lang/String", name := "checkIndex", desc := "(II)V" } : Jvm.MethodName)) ∈ lw_all := lw_g (lw_at lw_m1 208 rfl) rfl
theorem q358 : (Jvm.Cond.methodLink "java/lang/StringUTF16" (71 : Nat) ({ cls := "java/lang/StringUTF16", name := "getChar", desc := "([BI)C" } : Jvm.MethodName)) ∈ lw_all := lw_g (lw_at lw_m1 209 rfl) rfl
theorem q359 : (Jvm.Cond.static ({ cls := "java/lang/StringUTF16", name := "getChar", desc := "([BI)C" } : Jvm.MethodName)) ∈ lw_all := lw_g (lw_at lw_m1 210 rfl) rfl
theorem q360 : (Jvm.Cond.code ({ cls := "java/lang/StringUTF16", name := "getChar", desc := "([BI)C" } : Jvm.MethodName) prog_46_method_5_code (2 : Nat) (Option.some Jvm.ClassFile.FieldType.char)) ∈ lw_all := lw_g (lw_at lw_m1 211 rfl) rfl
theorem q361 : (Jvm.Cond.fieldLink "java/lang/StringUTF16" (44 : Nat) "java/lang/StringUTF16" "$assertionsDisabled" "Z") ∈ lw_all := lw_g (lw_at lw_m1 212 rfl) rfl
theorem q362 : (Jvm.Cond.laysStatic "java/lang/StringUTF16" "$assertionsDisabled" "Z") ∈ lw_tbl := lw_at lw_m1 213 rfl
theorem q363 : (Jvm.Cond.fieldLink "java/lang/StringUTF16" (59 : Nat) "java/lang/StringUTF16" "HI_BYTE_SHIFT" "I") ∈ lw_all := lw_g (lw_at lw_m1 214 rfl) rfl
theorem q364 : (Jvm.Cond.laysStatic "java/lang/StringUTF16" "HI_BYTE_SHIFT" "I") ∈ lw_tbl := lw_at lw_m1 215 rfl
theorem q365 : (Jvm.Cond.fieldLink "java/lang/StringUTF16" (63 : Nat) "java/lang/StringUTF16" "LO_BYTE_SHIFT" "I") ∈ lw_all := lw_g (lw_at lw_m1 216 rfl) rfl
theorem q366 : (Jvm.Cond.laysStatic "java/lang/StringUTF16" "LO_BYTE_SHIFT" "I") ∈ lw_tbl := lw_at lw_m1 217 rfl
theorem q367 : (Jvm.Cond.methodLink "CoinJudge$Curve" (18 : Nat) ({ cls := "CoinJudge$Ring", name := "<init>", desc := "(LCoinJudge$Big;)V" } : Jvm.MethodName)) ∈ lw_all := lw_g (lw_at lw_m1 218 rfl) rfl
theorem q368 : (Jvm.Cond.instanceMethod ({ cls := "CoinJudge$Ring", name := "<init>", desc := "(LCoinJudge$Big;)V" } : Jvm.MethodName)) ∈ lw_all := lw_g (lw_at lw_m1 219 rfl) rfl
theorem q369 : (Jvm.Cond.code ({ cls := "CoinJudge$Ring", name := "<init>", desc := "(LCoinJudge$Big;)V" } : Jvm.MethodName) prog_19_method_1_code (2 : Nat) (Option.none : Option Jvm.ClassFile.FieldType)) ∈ lw_all := lw_g (lw_at lw_m1 220 rfl) rfl
theorem q370 : (Jvm.Cond.methodLink "CoinJudge$Ring" (3 : Nat) ({ cls := "java/lang/Object", name := "<init>", desc := "()V" } : Jvm.MethodName)) ∈ lw_all := lw_g (lw_at lw_m1 221 rfl) rfl
theorem q371 : (Jvm.Cond.classLink "CoinJudge$Ring" (9 : Nat) "CoinJudge$Big") ∈ lw_all := lw_g (lw_at lw_m1 222 rfl) rfl
theorem q372 : (Jvm.Cond.methodLinkNest "CoinJudge$Ring" (11 : Nat) ({ cls := "CoinJudge$Big", name := "<init>", desc := "()V" } : Jvm.MethodName) "CoinJudge") ∈ lw_tbl := lw_at lw_m1 223 rfl
theorem q373 : (Jvm.Cond.methodLink "CoinJudge$Ring" (43 : Nat) ({ cls := "CoinJudge$Big", name := "zero", desc := "()LCoinJudge$Big;" } : Jvm.MethodName)) ∈ lw_all := lw_g (lw_at lw_m1 224 rfl) rfl
theorem q374 : (Jvm.Cond.methodLink "CoinJudge$Ring" (47 : Nat) ({ cls := "CoinJudge$Big", name := "subtract", desc := "(LCoinJudge$Big;LCoinJudge$Big;)LCoinJudge$Big;" } : Jvm.MethodName)) ∈ lw_all := lw_g (lw_at lw_m1 225 rfl) rfl
theorem q375 : (Jvm.Cond.instanceMethod ({ cls := "CoinJudge$Big", name := "subtract", desc := "(LCoinJudge$Big;LCoinJudge$Big;)LCoinJudge$Big;" } : Jvm.MethodName)) ∈ lw_all := lw_g (lw_at lw_m1 226 rfl) rfl
theorem q376 : (Jvm.Cond.selects "CoinJudge$Big" ({ cls := "CoinJudge$Big", name := "subtract", desc := "(LCoinJudge$Big;LCoinJudge$Big;)LCoinJudge$Big;" } : Jvm.MethodName) ({ cls := "CoinJudge$Big", name := "subtract", desc := "(LCoinJudge$Big;LCoinJudge$Big;)LCoinJudge$Big;" } : Jvm.MethodName)) ∈ lw_all := lw_g (lw_at lw_m1 227 rfl) rfl
theorem q377 : (Jvm.Cond.code ({ cls := "CoinJudge$Big", name := "subtract", desc := "(LCoinJudge$Big;LCoinJudge$Big;)LCoinJudge$Big;" } : Jvm.MethodName) prog_2_method_8_code (6 : Nat) (Option.some (Jvm.ClassFile.FieldType.object "CoinJudge$Big"))) ∈ lw_all := lw_g (lw_at lw_m1 228 rfl) rfl
theorem q378 : (Jvm.Cond.constantLong "CoinJudge$Big" (19 : Nat) (4294967295 : Int64)) ∈ lw_all := lw_g (lw_at lw_m1 229 rfl) rfl
theorem q379 : (Jvm.Cond.fieldLink "CoinJudge$Ring" (40 : Nat) "CoinJudge$Ring" "modulus" "LCoinJudge$Big;") ∈ lw_all := lw_g (lw_at lw_m1 230 rfl) rfl
theorem q380 : (Jvm.Cond.fieldLink "CoinJudge$Ring" (12 : Nat) "CoinJudge$Ring" "rest" "LCoinJudge$Big;") ∈ lw_all := lw_g (lw_at lw_m1 231 rfl) rfl
theorem q381 : (Jvm.Cond.fieldLink "CoinJudge$Ring" (18 : Nat) "CoinJudge$Ring" "wide" "[I") ∈ lw_all := lw_g (lw_at lw_m1 232 rfl) rfl
theorem q382 : (Jvm.Cond.fieldLink "CoinJudge$Ring" (22 : Nat) "CoinJudge$Ring" "next" "[I") ∈ lw_all := lw_g (lw_at lw_m1 233 rfl) rfl
theorem q383 : (Jvm.Cond.fieldLink "CoinJudge$Ring" (25 : Nat) "CoinJudge$Ring" "exponent" "LCoinJudge$Big;") ∈ lw_all := lw_g (lw_at lw_m1 234 rfl) rfl
theorem q384 : (Jvm.Cond.fieldLink "CoinJudge$Ring" (28 : Nat) "CoinJudge$Ring" "power" "LCoinJudge$Big;") ∈ lw_all := lw_g (lw_at lw_m1 235 rfl) rfl
theorem q385 : (Jvm.Cond.fieldLink "CoinJudge$Ring" (31 : Nat) "CoinJudge$Ring" "low" "LCoinJudge$Big;") ∈ lw_all := lw_g (lw_at lw_m1 236 rfl) rfl
theorem q386 : (Jvm.Cond.fieldLink "CoinJudge$Ring" (34 : Nat) "CoinJudge$Ring" "base" "LCoinJudge$Big;") ∈ lw_all := lw_g (lw_at lw_m1 237 rfl) rfl
theorem q387 : (Jvm.Cond.fieldLink "CoinJudge$Ring" (37 : Nat) "CoinJudge$Ring" "lessTwo" "LCoinJudge$Big;") ∈ lw_all := lw_g (lw_at lw_m1 238 rfl) rfl
theorem q388 : (Jvm.Cond.laysFinal "CoinJudge$Ring" "CoinJudge$Ring" "modulus" "LCoinJudge$Big;") ∈ lw_all := lw_g (lw_at lw_m1 239 rfl) rfl
theorem q389 : (Jvm.Cond.soleField "CoinJudge$Ring" "modulus") ∈ lw_all := lw_g (lw_at lw_m2 0 rfl) rfl
theorem q390 : (Jvm.Cond.laysFinal "CoinJudge$Ring" "CoinJudge$Ring" "rest" "LCoinJudge$Big;") ∈ lw_all := lw_g (lw_at lw_m2 1 rfl) rfl
theorem q391 : (Jvm.Cond.soleField "CoinJudge$Ring" "rest") ∈ lw_all := lw_g (lw_at lw_m2 2 rfl) rfl
theorem q392 : (Jvm.Cond.laysFinal "CoinJudge$Ring" "CoinJudge$Ring" "wide" "[I") ∈ lw_all := lw_g (lw_at lw_m2 3 rfl) rfl
theorem q393 : (Jvm.Cond.soleField "CoinJudge$Ring" "wide") ∈ lw_all := lw_g (lw_at lw_m2 4 rfl) rfl
theorem q394 : (Jvm.Cond.laysFinal "CoinJudge$Ring" "CoinJudge$Ring" "next" "[I") ∈ lw_all := lw_g (lw_at lw_m2 5 rfl) rfl
theorem q395 : (Jvm.Cond.soleField "CoinJudge$Ring" "next") ∈ lw_all := lw_g (lw_at lw_m2 6 rfl) rfl
theorem q396 : (Jvm.Cond.laysFinal "CoinJudge$Ring" "CoinJudge$Ring" "exponent" "LCoinJudge$Big;") ∈ lw_all := lw_g (lw_at lw_m2 7 rfl) rfl
theorem q397 : (Jvm.Cond.soleField "CoinJudge$Ring" "exponent") ∈ lw_all := lw_g (lw_at lw_m2 8 rfl) rfl
theorem q398 : (Jvm.Cond.laysFinal "CoinJudge$Ring" "CoinJudge$Ring" "power" "LCoinJudge$Big;") ∈ lw_all := lw_g (lw_at lw_m2 9 rfl) rfl
theorem q399 : (Jvm.Cond.soleField "CoinJudge$Ring" "power") ∈ lw_all := lw_g (lw_at lw_m2 10 rfl) rfl
theorem q400 : (Jvm.Cond.laysFinal "CoinJudge$Ring" "CoinJudge$Ring" "low" "LCoinJudge$Big;") ∈ lw_all := lw_g (lw_at lw_m2 11 rfl) rfl
theorem q401 : (Jvm.Cond.soleField "CoinJudge$Ring" "low") ∈ lw_all := lw_g (lw_at lw_m2 12 rfl) rfl
theorem q402 : (Jvm.Cond.laysFinal "CoinJudge$Ring" "CoinJudge$Ring" "base" "LCoinJudge$Big;") ∈ lw_all := lw_g (lw_at lw_m2 13 rfl) rfl
theorem q403 : (Jvm.Cond.soleField "CoinJudge$Ring" "base") ∈ lw_all := lw_g (lw_at lw_m2 14 rfl) rfl
theorem q404 : (Jvm.Cond.laysFinal "CoinJudge$Ring" "CoinJudge$Ring" "lessTwo" "LCoinJudge$Big;") ∈ lw_all := lw_g (lw_at lw_m2 15 rfl) rfl
theorem q405 : (Jvm.Cond.soleField "CoinJudge$Ring" "lessTwo") ∈ lw_all := lw_g (lw_at lw_m2 16 rfl) rfl
theorem q406 : (Jvm.Cond.superclass "CoinJudge$Ring" "java/lang/Object") ∈ lw_all := lw_g (lw_at lw_m2 17 rfl) rfl
theorem q407 : (Jvm.Cond.stringRef "CoinJudge$Curve" (27 : Nat) "FFFFFFFFFFFFFFFFFFFFFFFFFFFFFFFEBAAEDCE6AF48A03BBFD25E8CD0364141") ∈ lw_tbl := lw_at lw_m2 18 rfl
theorem q408 : (Jvm.Cond.classLink "CoinJudge$Curve" (32 : Nat) "CoinJudge$Point") ∈ lw_all := lw_g (lw_at lw_m2 19 rfl) rfl
theorem q409 : (Jvm.Cond.instantiable "CoinJudge$Point" (3 : Nat)) ∈ lw_all := lw_g (lw_at lw_m2 20 rfl) rfl
theorem q410 : (Jvm.Cond.methodLinkNest "CoinJudge$Curve" (34 : Nat) ({ cls := "CoinJudge$Point", name := "<init>", desc := "()V" } : Jvm.MethodName) "CoinJudge") ∈ lw_tbl := lw_at lw_m2 21 rfl
theorem q411 : (Jvm.Cond.instanceMethod ({ cls := "CoinJudge$Point", name := "<init>", desc := "()V" } : Jvm.MethodName)) ∈ lw_all := lw_g (lw_at lw_m2 22 rfl) rfl
theorem q412 : (Jvm.Cond.code ({ cls := "CoinJudge$Point", name := "<init>", desc := "()V" } : Jvm.MethodName) prog_17_method_1_code (1 : Nat) (Option.none : Option Jvm.ClassFile.FieldType)) ∈ lw_all := lw_g (lw_at lw_m2 23 rfl) rfl
theorem q413 : (Jvm.Cond.methodLink "CoinJudge$Point" (1 : Nat) ({ cls := "java/lang/Object", name := "<init>", desc := "()V" } : Jvm.MethodName)) ∈ lw_all := lw_g (lw_at lw_m2 24 rfl) rfl
theorem q414 : (Jvm.Cond.classLink "CoinJudge$Point" (7 : Nat) "CoinJudge$Big") ∈ lw_all := lw_g (lw_at lw_m2 25 rfl) rfl
theorem q415 : (Jvm.Cond.methodLinkNest "CoinJudge$Point" (9 : Nat) ({ cls := "CoinJudge$Big", name := "<init>", desc := "()V" } : Jvm.MethodName) "CoinJudge") ∈ lw_tbl := lw_at lw_m2 26 rfl
theorem q416 : (Jvm.Cond.fieldLink "CoinJudge$Point" (10 : Nat) "CoinJudge$Point" "x" "LCoinJudge$Big;") ∈ lw_all := lw_g (lw_at lw_m2 27 rfl) rfl
theorem q417 : (Jvm.Cond.fieldLinkNest "CoinJudge$Curve" (85 : Nat) "CoinJudge$Point" "x" "LCoinJudge$Big;" "CoinJudge") ∈ lw_tbl := lw_at lw_m2 28 rfl
theorem q418 : (Jvm.Cond.fieldLink "CoinJudge$Point" (16 : Nat) "CoinJudge$Point" "y" "LCoinJudge$Big;") ∈ lw_all := lw_g (lw_at lw_m2 29 rfl) rfl
theorem q419 : (Jvm.Cond.fieldLinkNest "CoinJudge$Curve" (90 : Nat) "CoinJudge$Point" "y" "LCoinJudge$Big;" "CoinJudge") ∈ lw_tbl := lw_at lw_m2 30 rfl
theorem q420 : (Jvm.Cond.fieldLink "CoinJudge$Point" (19 : Nat) "CoinJudge$Point" "z" "LCoinJudge$Big;") ∈ lw_all := lw_g (lw_at lw_m2 31 rfl) rfl
theorem q421 : (Jvm.Cond.fieldLinkNest "CoinJudge$Curve" (95 : Nat) "CoinJudge$Point" "z" "LCoinJudge$Big;" "CoinJudge") ∈ lw_tbl := lw_at lw_m2 32 rfl
theorem q422 : (Jvm.Cond.laysFinal "CoinJudge$Point" "CoinJudge$Point" "x" "LCoinJudge$Big;") ∈ lw_all := lw_g (lw_at lw_m2 33 rfl) rfl
theorem q423 : (Jvm.Cond.soleField "CoinJudge$Point" "x") ∈ lw_all := lw_g (lw_at lw_m2 34 rfl) rfl
theorem q424 : (Jvm.Cond.laysFinal "CoinJudge$Point" "CoinJudge$Point" "y" "LCoinJudge$Big;") ∈ lw_all := lw_g (lw_at lw_m2 35 rfl) rfl
theorem q425 : (Jvm.Cond.soleField "CoinJudge$Point" "y") ∈ lw_all := lw_g (lw_at lw_m2 36 rfl) rfl
theorem q426 : (Jvm.Cond.laysFinal "CoinJudge$Point" "CoinJudge$Point" "z" "LCoinJudge$Big;") ∈ lw_all := lw_g (lw_at lw_m2 37 rfl) rfl
theorem q427 : (Jvm.Cond.soleField "CoinJudge$Point" "z") ∈ lw_all := lw_g (lw_at lw_m2 38 rfl) rfl
theorem q428 : (Jvm.Cond.superclass "CoinJudge$Point" "java/lang/Object") ∈ lw_all := lw_g (lw_at lw_m2 39 rfl) rfl
theorem q429 : (Jvm.Cond.stringRef "CoinJudge$Curve" (88 : Nat) "79BE667EF9DCBBAC55A06295CE870B07029BFCDB2DCE28D959F2815B16F81798") ∈ lw_tbl := lw_at lw_m2 40 rfl
theorem q430 : (Jvm.Cond.stringRef "CoinJudge$Curve" (93 : Nat) "483ADA7726A3C4655DA4FBFC0E1108A8FD17B448A68554199C47D08FFB10D4B8") ∈ lw_tbl := lw_at lw_m2 41 rfl
theorem q431 : (Jvm.Cond.methodLink "CoinJudge$Curve" (98 : Nat) ({ cls := "CoinJudge$Big", name := "small", desc := "(J)LCoinJudge$Big;" } : Jvm.MethodName)) ∈ lw_all := lw_g (lw_at lw_m2 42 rfl) rfl
theorem q432 : (Jvm.Cond.instanceMethod ({ cls := "CoinJudge$Big", name := "small", desc := "(J)LCoinJudge$Big;" } : Jvm.MethodName)) ∈ lw_all := lw_g (lw_at lw_m2 43 rfl) rfl
theorem q433 : (Jvm.Cond.selects "CoinJudge$Big" ({ cls := "CoinJudge$Big", name := "small", desc := "(J)LCoinJudge$Big;" } : Jvm.MethodName) ({ cls := "CoinJudge$Big", name := "small", desc := "(J)LCoinJudge$Big;" } : Jvm.MethodName)) ∈ lw_all := lw_g (lw_at lw_m2 44 rfl) rfl
theorem q434 : (Jvm.Cond.code ({ cls := "CoinJudge$Big", name := "small", desc := "(J)LCoinJudge$Big;" } : Jvm.MethodName) prog_2_method_4_code (3 : Nat) (Option.some (Jvm.ClassFile.FieldType.object "CoinJudge$Big"))) ∈ lw_all := lw_g (lw_at lw_m2 45 rfl) rfl
theorem q435 : (Jvm.Cond.fieldLink "CoinJudge$Curve" (21 : Nat) "CoinJudge$Curve" "field" "LCoinJudge$Ring;") ∈ lw_all := lw_g (lw_at lw_m2 46 rfl) rfl
theorem q436 : (Jvm.Cond.fieldLink "CoinJudge$Curve" (29 : Nat) "CoinJudge$Curve" "scalars" "LCoinJudge$Ring;") ∈ lw_all := lw_g (lw_at lw_m2 47 rfl) rfl
theorem q437 : (Jvm.Cond.fieldLink "CoinJudge$Curve" (35 : Nat) "CoinJudge$Curve" "base" "LCoinJudge$Point;") ∈ lw_all := lw_g (lw_at lw_m2 48 rfl) rfl
theorem q438 : (Jvm.Cond.fieldLink "CoinJudge$Curve" (39 : Nat) "CoinJudge$Curve" "a" "LCoinJudge$Big;") ∈ lw_all := lw_g (lw_at lw_m2 49 rfl) rfl
theorem q439 : (Jvm.Cond.fieldLink "CoinJudge$Curve" (43 : Nat) "CoinJudge$Curve" "b" "LCoinJudge$Big;") ∈ lw_all := lw_g (lw_at lw_m2 50 rfl) rfl
theorem q440 : (Jvm.Cond.fieldLink "CoinJudge$Curve" (46 : Nat) "CoinJudge$Curve" "c" "LCoinJudge$Big;") ∈ lw_all := lw_g (lw_at lw_m2 51 rfl) rfl
theorem q441 : (Jvm.Cond.fieldLink "CoinJudge$Curve" (49 : Nat) "CoinJudge$Curve" "d" "LCoinJudge$Big;") ∈ lw_all := lw_g (lw_at lw_m2 52 rfl) rfl
theorem q442 : (Jvm.Cond.fieldLink "CoinJudge$Curve" (52 : Nat) "CoinJudge$Curve" "e" "LCoinJudge$Big;") ∈ lw_all := lw_g (lw_at lw_m2 53 rfl) rfl
theorem q443 : (Jvm.Cond.fieldLink "CoinJudge$Curve" (55 : Nat) "CoinJudge$Curve" "f" "LCoinJudge$Big;") ∈ lw_all := lw_g (lw_at lw_m2 54 rfl) rfl
theorem q444 : (Jvm.Cond.fieldLink "CoinJudge$Curve" (58 : Nat) "CoinJudge$Curve" "sum" "LCoinJudge$Point;") ∈ lw_all := lw_g (lw_at lw_m2 55 rfl) rfl
theorem q445 : (Jvm.Cond.fieldLink "CoinJudge$Curve" (61 : Nat) "CoinJudge$Curve" "key" "LCoinJudge$Point;") ∈ lw_all := lw_g (lw_at lw_m2 56 rfl) rfl
theorem q446 : (Jvm.Cond.fieldLink "CoinJudge$Curve" (64 : Nat) "CoinJudge$Curve" "left" "LCoinJudge$Point;") ∈ lw_all := lw_g (lw_at lw_m2 57 rfl) rfl
theorem q447 : (Jvm.Cond.fieldLink "CoinJudge$Curve" (67 : Nat) "CoinJudge$Curve" "right" "LCoinJudge$Point;") ∈ lw_all := lw_g (lw_at lw_m2 58 rfl) rfl
theorem q448 : (Jvm.Cond.fieldLink "CoinJudge$Curve" (70 : Nat) "CoinJudge$Curve" "\x72" "LCoinJudge$Big;") ∈ lw_all := lw_g (lw_at lw_m2 59 rfl) rfl
theorem q449 : (Jvm.Cond.fieldLink "CoinJudge$Curve" (73 : Nat) "CoinJudge$Curve" "s" "LCoinJudge$Big;") ∈ lw_all := lw_g (lw_at lw_m2 60 rfl) rfl
theorem q450 : (Jvm.Cond.fieldLink "CoinJudge$Curve" (76 : Nat) "CoinJudge$Curve" "h" "LCoinJudge$Big;") ∈ lw_all := lw_g (lw_at lw_m2 61 rfl) rfl
theorem q451 : (Jvm.Cond.fieldLink "CoinJudge$Curve" (79 : Nat) "CoinJudge$Curve" "u" "LCoinJudge$Big;") ∈ lw_all := lw_g (lw_at lw_m2 62 rfl) rfl
theorem q452 : (Jvm.Cond.fieldLink "CoinJudge$Curve" (82 : Nat) "CoinJudge$Curve" "v" "LCoinJudge$Big;") ∈ lw_all := lw_g (lw_at lw_m2 63 rfl) rfl
theorem q453 : (Jvm.Cond.laysFinal "CoinJudge$Curve" "CoinJudge$Curve" "field" "LCoinJudge$Ring;") ∈ lw_all := lw_g (lw_at lw_m2 64 rfl) rfl
theorem q454 : (Jvm.Cond.soleField "CoinJudge$Curve" "field") ∈ lw_all := lw_g (lw_at lw_m2 65 rfl) rfl
theorem q455 : (Jvm.Cond.laysFinal "CoinJudge$Curve" "CoinJudge$Curve" "scalars" "LCoinJudge$Ring;") ∈ lw_all := lw_g (lw_at lw_m2 66 rfl) rfl
theorem q456 : (Jvm.Cond.soleField "CoinJudge$Curve" "scalars") ∈ lw_all := lw_g (lw_at lw_m2 67 rfl) rfl
theorem q457 : (Jvm.Cond.laysFinal "CoinJudge$Curve" "CoinJudge$Curve" "base" "LCoinJudge$Point;") ∈ lw_all := lw_g (lw_at lw_m2 68 rfl) rfl
theorem q458 : (Jvm.Cond.soleField "CoinJudge$Curve" "base") ∈ lw_all := lw_g (lw_at lw_m2 69 rfl) rfl
theorem q459 : (Jvm.Cond.laysFinal "CoinJudge$Curve" "CoinJudge$Curve" "a" "LCoinJudge$Big;") ∈ lw_all := lw_g (lw_at lw_m2 70 rfl) rfl
theorem q460 : (Jvm.Cond.soleField "CoinJudge$Curve" "a") ∈ lw_all := lw_g (lw_at lw_m2 71 rfl) rfl
theorem q461 : (Jvm.Cond.laysFinal "CoinJudge$Curve" "CoinJudge$Curve" "b" "LCoinJudge$Big;") ∈ lw_all := lw_g (lw_at lw_m2 72 rfl) rfl
theorem q462 : (Jvm.Cond.soleField "CoinJudge$Curve" "b") ∈ lw_all := lw_g (lw_at lw_m2 73 rfl) rfl
theorem q463 : (Jvm.Cond.laysFinal "CoinJudge$Curve" "CoinJudge$Curve" "c" "LCoinJudge$Big;") ∈ lw_all := lw_g (lw_at lw_m2 74 rfl) rfl
theorem q464 : (Jvm.Cond.soleField "CoinJudge$Curve" "c") ∈ lw_all := lw_g (lw_at lw_m2 75 rfl) rfl
theorem q465 : (Jvm.Cond.laysFinal "CoinJudge$Curve" "CoinJudge$Curve" "d" "LCoinJudge$Big;") ∈ lw_all := lw_g (lw_at lw_m2 76 rfl) rfl
theorem q466 : (Jvm.Cond.soleField "CoinJudge$Curve" "d") ∈ lw_all := lw_g (lw_at lw_m2 77 rfl) rfl
theorem q467 : (Jvm.Cond.laysFinal "CoinJudge$Curve" "CoinJudge$Curve" "e" "LCoinJudge$Big;") ∈ lw_all := lw_g (lw_at lw_m2 78 rfl) rfl
theorem q468 : (Jvm.Cond.soleField "CoinJudge$Curve" "e") ∈ lw_all := lw_g (lw_at lw_m2 79 rfl) rfl
theorem q469 : (Jvm.Cond.laysFinal "CoinJudge$Curve" "CoinJudge$Curve" "f" "LCoinJudge$Big;") ∈ lw_all := lw_g (lw_at lw_m2 80 rfl) rfl
theorem q470 : (Jvm.Cond.soleField "CoinJudge$Curve" "f") ∈ lw_all := lw_g (lw_at lw_m2 81 rfl) rfl
theorem q471 : (Jvm.Cond.laysFinal "CoinJudge$Curve" "CoinJudge$Curve" "sum" "LCoinJudge$Point;") ∈ lw_all := lw_g (lw_at lw_m2 82 rfl) rfl
theorem q472 : (Jvm.Cond.soleField "CoinJudge$Curve" "sum") ∈ lw_all := lw_g (lw_at lw_m2 83 rfl) rfl
theorem q473 : (Jvm.Cond.laysFinal "CoinJudge$Curve" "CoinJudge$Curve" "key" "LCoinJudge$Point;") ∈ lw_all := lw_g (lw_at lw_m2 84 rfl) rfl
theorem q474 : (Jvm.Cond.soleField "CoinJudge$Curve" "key") ∈ lw_all := lw_g (lw_at lw_m2 85 rfl) rfl
theorem q475 : (Jvm.Cond.laysFinal "CoinJudge$Curve" "CoinJudge$Curve" "left" "LCoinJudge$Point;") ∈ lw_all := lw_g (lw_at lw_m2 86 rfl) rfl
theorem q476 : (Jvm.Cond.soleField "CoinJudge$Curve" "left") ∈ lw_all := lw_g (lw_at lw_m2 87 rfl) rfl
theorem q477 : (Jvm.Cond.laysFinal "CoinJudge$Curve" "CoinJudge$Curve" "right" "LCoinJudge$Point;") ∈ lw_all := lw_g (lw_at lw_m2 88 rfl) rfl
theorem q478 : (Jvm.Cond.soleField "CoinJudge$Curve" "right") ∈ lw_all := lw_g (lw_at lw_m2 89 rfl) rfl
theorem q479 : (Jvm.Cond.laysFinal "CoinJudge$Curve" "CoinJudge$Curve" "\x72" "LCoinJudge$Big;") ∈ lw_all := lw_g (lw_at lw_m2 90 rfl) rfl
theorem q480 : (Jvm.Cond.soleField "CoinJudge$Curve" "\x72") ∈ lw_all := lw_g (lw_at lw_m2 91 rfl) rfl
theorem q481 : (Jvm.Cond.laysFinal "CoinJudge$Curve" "CoinJudge$Curve" "s" "LCoinJudge$Big;") ∈ lw_all := lw_g (lw_at lw_m2 92 rfl) rfl
theorem q482 : (Jvm.Cond.soleField "CoinJudge$Curve" "s") ∈ lw_all := lw_g (lw_at lw_m2 93 rfl) rfl
theorem q483 : (Jvm.Cond.laysFinal "CoinJudge$Curve" "CoinJudge$Curve" "h" "LCoinJudge$Big;") ∈ lw_all := lw_g (lw_at lw_m2 94 rfl) rfl
theorem q484 : (Jvm.Cond.soleField "CoinJudge$Curve" "h") ∈ lw_all := lw_g (lw_at lw_m2 95 rfl) rfl
theorem q485 : (Jvm.Cond.laysFinal "CoinJudge$Curve" "CoinJudge$Curve" "u" "LCoinJudge$Big;") ∈ lw_all := lw_g (lw_at lw_m2 96 rfl) rfl
theorem q486 : (Jvm.Cond.soleField "CoinJudge$Curve" "u") ∈ lw_all := lw_g (lw_at lw_m2 97 rfl) rfl
theorem q487 : (Jvm.Cond.laysFinal "CoinJudge$Curve" "CoinJudge$Curve" "v" "LCoinJudge$Big;") ∈ lw_all := lw_g (lw_at lw_m2 98 rfl) rfl
theorem q488 : (Jvm.Cond.soleField "CoinJudge$Curve" "v") ∈ lw_all := lw_g (lw_at lw_m2 99 rfl) rfl
theorem q489 : (Jvm.Cond.superclass "CoinJudge$Curve" "java/lang/Object") ∈ lw_all := lw_g (lw_at lw_m2 100 rfl) rfl
theorem q490 : (Jvm.Cond.classLink "CoinJudge" (23 : Nat) "CoinJudge$Machine") ∈ lw_all := lw_g (lw_at lw_m2 101 rfl) rfl
theorem q491 : (Jvm.Cond.instantiable "CoinJudge$Machine" (13 : Nat)) ∈ lw_all := lw_g (lw_at lw_m2 102 rfl) rfl
theorem q492 : (Jvm.Cond.methodLink "CoinJudge" (25 : Nat) ({ cls := "CoinJudge$Machine", name := "<init>", desc := "(LCoinJudge$Digests;)V" } : Jvm.MethodName)) ∈ lw_all := lw_g (lw_at lw_m2 103 rfl) rfl
theorem q493 : (Jvm.Cond.instanceMethod ({ cls := "CoinJudge$Machine", name := "<init>", desc := "(LCoinJudge$Digests;)V" } : Jvm.MethodName)) ∈ lw_all := lw_g (lw_at lw_m2 104 rfl) rfl
theorem q494 : (Jvm.Cond.code ({ cls := "CoinJudge$Machine", name := "<init>", desc := "(LCoinJudge$Digests;)V" } : Jvm.MethodName) prog_15_method_1_code (2 : Nat) (Option.none : Option Jvm.ClassFile.FieldType)) ∈ lw_all := lw_g (lw_at lw_m2 105 rfl) rfl
theorem q495 : (Jvm.Cond.methodLink "CoinJudge$Machine" (3 : Nat) ({ cls := "java/lang/Object", name := "<init>", desc := "()V" } : Jvm.MethodName)) ∈ lw_all := lw_g (lw_at lw_m2 106 rfl) rfl
theorem q496 : (Jvm.Cond.classLink "CoinJudge$Machine" (11 : Nat) "CoinJudge$Element") ∈ lw_all := lw_g (lw_at lw_m2 107 rfl) rfl
theorem q497 : (Jvm.Cond.arrayOver (Jvm.ClassFile.FieldType.object "CoinJudge$Element")) ∈ lw_tbl := lw_at lw_m2 108 rfl
theorem q498 : (Jvm.Cond.fieldLink "CoinJudge$Machine" (40 : Nat) "CoinJudge$Machine" "digests" "LCoinJudge$Digests;") ∈ lw_all := lw_g (lw_at lw_m2 109 rfl) rfl
theorem q499 : (Jvm.Cond.fieldLink "CoinJudge$Machine" (13 : Nat) "CoinJudge$Machine" "stack" "[LCoinJudge$Element;") ∈ lw_all := lw_g (lw_at lw_m2 110 rfl) rfl
theorem q500 : (Jvm.Cond.fieldLink "CoinJudge$Machine" (17 : Nat) "CoinJudge$Machine" "other" "[LCoinJudge$Element;") ∈ lw_all := lw_g (lw_at lw_m2 111 rfl) rfl
theorem q501 : (Jvm.Cond.fieldLink "CoinJudge$Machine" (20 : Nat) "CoinJudge$Machine" "kept" "[LCoinJudge$Element;") ∈ lw_all := lw_g (lw_at lw_m2 112 rfl) rfl
theorem q502 : (Jvm.Cond.fieldLink "CoinJudge$Machine" (45 : Nat) "CoinJudge$Machine" "top" "I") ∈ lw_all := lw_g (lw_at lw_m2 113 rfl) rfl
theorem q503 : (Jvm.Cond.fieldLink "CoinJudge$Machine" (49 : Nat) "CoinJudge$Machine" "otherTop" "I") ∈ lw_all := lw_g (lw_at lw_m2 114 rfl) rfl
theorem q504 : (Jvm.Cond.fieldLink "CoinJudge$Machine" (80 : Nat) "CoinJudge$Machine" "keptTop" "I") ∈ lw_all := lw_g (lw_at lw_m2 115 rfl) rfl
theorem q505 : (Jvm.Cond.fieldLink "CoinJudge$Machine" (23 : Nat) "CoinJudge$Machine" "branches" "[Z") ∈ lw_all := lw_g (lw_at lw_m2 116 rfl) rfl
theorem q506 : (Jvm.Cond.fieldLink "CoinJudge$Machine" (103 : Nat) "CoinJudge$Machine" "depth" "I") ∈ lw_all := lw_g (lw_at lw_m2 117 rfl) rfl
theorem q507 : (Jvm.Cond.fieldLink "CoinJudge$Machine" (27 : Nat) "CoinJudge$Machine" "code" "[B") ∈ lw_all := lw_g (lw_at lw_m2 118 rfl) rfl
theorem q508 : (Jvm.Cond.fieldLink "CoinJudge$Machine" (31 : Nat) "CoinJudge$Machine" "without" "[B") ∈ lw_all := lw_g (lw_at lw_m2 119 rfl) rfl
theorem q509 : (Jvm.Cond.fieldLink "CoinJudge$Machine" (34 : Nat) "CoinJudge$Machine" "digest" "[B") ∈ lw_all := lw_g (lw_at lw_m2 120 rfl) rfl
theorem q510 : (Jvm.Cond.fieldLink "CoinJudge$Machine" (37 : Nat) "CoinJudge$Machine" "inner" "[B") ∈ lw_all := lw_g (lw_at lw_m2 121 rfl) rfl
theorem q511 : (Jvm.Cond.laysFinal "CoinJudge$Machine" "CoinJudge$Machine" "digests" "LCoinJudge$Digests;") ∈ lw_all := lw_g (lw_at lw_m2 122 rfl) rfl
theorem q512 : (Jvm.Cond.soleField "CoinJudge$Machine" "digests") ∈ lw_all := lw_g (lw_at lw_m2 123 rfl) rfl
theorem q513 : (Jvm.Cond.laysFinal "CoinJudge$Machine" "CoinJudge$Machine" "stack" "[LCoinJudge$Element;") ∈ lw_all := lw_g (lw_at lw_m2 124 rfl) rfl
theorem q514 : (Jvm.Cond.soleField "CoinJudge$Machine" "stack") ∈ lw_all := lw_g (lw_at lw_m2 125 rfl) rfl
theorem q515 : (Jvm.Cond.laysFinal "CoinJudge$Machine" "CoinJudge$Machine" "other" "[LCoinJudge$Element;") ∈ lw_all := lw_g (lw_at lw_m2 126 rfl) rfl
theorem q516 : (Jvm.Cond.soleField "CoinJudge$Machine" "other") ∈ lw_all := lw_g (lw_at lw_m2 127 rfl) rfl
theorem q517 : (Jvm.Cond.laysFinal "CoinJudge$Machine" "CoinJudge$Machine" "kept" "[LCoinJudge$Element;") ∈ lw_all := lw_g (lw_at lw_m2 128 rfl) rfl
theorem q518 : (Jvm.Cond.soleField "CoinJudge$Machine" "kept") ∈ lw_all := lw_g (lw_at lw_m2 129 rfl) rfl
theorem q519 : (Jvm.Cond.lays "CoinJudge$Machine" "CoinJudge$Machine" "top" "I") ∈ lw_all := lw_g (lw_at lw_m2 130 rfl) rfl
theorem q520 : (Jvm.Cond.soleField "CoinJudge$Machine" "top") ∈ lw_all := lw_g (lw_at lw_m2 131 rfl) rfl
theorem q521 : (Jvm.Cond.lays "CoinJudge$Machine" "CoinJudge$Machine" "otherTop" "I") ∈ lw_all := lw_g (lw_at lw_m2 132 rfl) rfl
theorem q522 : (Jvm.Cond.soleField "CoinJudge$Machine" "otherTop") ∈ lw_all := lw_g (lw_at lw_m2 133 rfl) rfl
theorem q523 : (Jvm.Cond.lays "CoinJudge$Machine" "CoinJudge$Machine" "keptTop" "I") ∈ lw_all := lw_g (lw_at lw_m2 134 rfl) rfl
theorem q524 : (Jvm.Cond.soleField "CoinJudge$Machine" "keptTop") ∈ lw_all := lw_g (lw_at lw_m2 135 rfl) rfl
theorem q525 : (Jvm.Cond.laysFinal "CoinJudge$Machine" "CoinJudge$Machine" "branches" "[Z") ∈ lw_all := lw_g (lw_at lw_m2 136 rfl) rfl
theorem q526 : (Jvm.Cond.soleField "CoinJudge$Machine" "branches") ∈ lw_all := lw_g (lw_at lw_m2 137 rfl) rfl
theorem q527 : (Jvm.Cond.lays "CoinJudge$Machine" "CoinJudge$Machine" "depth" "I") ∈ lw_all := lw_g (lw_at lw_m2 138 rfl) rfl
theorem q528 : (Jvm.Cond.soleField "CoinJudge$Machine" "depth") ∈ lw_all := lw_g (lw_at lw_m2 139 rfl) rfl
theorem q529 : (Jvm.Cond.laysFinal "CoinJudge$Machine" "CoinJudge$Machine" "code" "[B") ∈ lw_all := lw_g (lw_at lw_m2 140 rfl) rfl
theorem q530 : (Jvm.Cond.soleField "CoinJudge$Machine" "code") ∈ lw_all := lw_g (lw_at lw_m2 141 rfl) rfl
theorem q531 : (Jvm.Cond.laysFinal "CoinJudge$Machine" "CoinJudge$Machine" "without" "[B") ∈ lw_all := lw_g (lw_at lw_m2 142 rfl) rfl
theorem q532 : (Jvm.Cond.soleField "CoinJudge$Machine" "without") ∈ lw_all := lw_g (lw_at lw_m2 143 rfl) rfl
theorem q533 : (Jvm.Cond.laysFinal "CoinJudge$Machine" "CoinJudge$Machine" "digest" "[B") ∈ lw_all := lw_g (lw_at lw_m2 144 rfl) rfl
theorem q534 : (Jvm.Cond.soleField "CoinJudge$Machine" "digest") ∈ lw_all := lw_g (lw_at lw_m2 145 rfl) rfl
theorem q535 : (Jvm.Cond.laysFinal "CoinJudge$Machine" "CoinJudge$Machine" "inner" "[B") ∈ lw_all := lw_g (lw_at lw_m2 146 rfl) rfl
theorem q536 : (Jvm.Cond.soleField "CoinJudge$Machine" "inner") ∈ lw_all := lw_g (lw_at lw_m2 147 rfl) rfl
theorem q537 : (Jvm.Cond.superclass "CoinJudge$Machine" "java/lang/Object") ∈ lw_all := lw_g (lw_at lw_m2 148 rfl) rfl
theorem q538 : (Jvm.Cond.arrayClass Jvm.ClassFile.FieldType.boolean) ∈ lw_all := lw_g (lw_at lw_m2 149 rfl) rfl
theorem q539 : (Jvm.Cond.classLink "CoinJudge" (32 : Nat) "CoinJudge$Signing") ∈ lw_all := lw_g (lw_at lw_m2 150 rfl) rfl
theorem q540 : (Jvm.Cond.instantiable "CoinJudge$Signing" (8 : Nat)) ∈ lw_all := lw_g (lw_at lw_m2 151 rfl) rfl
theorem q541 : (Jvm.Cond.methodLink "CoinJudge" (34 : Nat) ({ cls := "CoinJudge$Signing", name := "<init>", desc := "(LCoinJudge$Digests;LCoinJudge$Curve;)V" } : Jvm.MethodName)) ∈ lw_all := lw_g (lw_at lw_m2 152 rfl) rfl
theorem q542 : (Jvm.Cond.instanceMethod ({ cls := "CoinJudge$Signing", name := "<init>", desc := "(LCoinJudge$Digests;LCoinJudge$Curve;)V" } : Jvm.MethodName)) ∈ lw_all := lw_g (lw_at lw_m2 153 rfl) rfl
theorem q543 : (Jvm.Cond.code ({ cls := "CoinJudge$Signing", name := "<init>", desc := "(LCoinJudge$Digests;LCoinJudge$Curve;)V" } : Jvm.MethodName) prog_21_method_1_code (3 : Nat) (Option.none : Option Jvm.ClassFile.FieldType)) ∈ lw_all := lw_g (lw_at lw_m2 154 rfl) rfl
theorem q544 : (Jvm.Cond.methodLink "CoinJudge$Signing" (3 : Nat) ({ cls := "java/lang/Object", name := "<init>", desc := "()V" } : Jvm.MethodName)) ∈ lw_all := lw_g (lw_at lw_m2 155 rfl) rfl
theorem q545 : (Jvm.Cond.fieldLink "CoinJudge$Signing" (18 : Nat) "CoinJudge$Signing" "digests" "LCoinJudge$Digests;") ∈ lw_all := lw_g (lw_at lw_m2 156 rfl) rfl
theorem q546 : (Jvm.Cond.fieldLink "CoinJudge$Signing" (22 : Nat) "CoinJudge$Signing" "curve" "LCoinJudge$Curve;") ∈ lw_all := lw_g (lw_at lw_m2 157 rfl) rfl
theorem q547 : (Jvm.Cond.fieldLink "CoinJudge$Signing" (9 : Nat) "CoinJudge$Signing" "bytes" "[B") ∈ lw_all := lw_g (lw_at lw_m2 158 rfl) rfl
theorem q548 : (Jvm.Cond.fieldLink "CoinJudge$Signing" (37 : Nat) "CoinJudge$Signing" "size" "I") ∈ lw_all := lw_g (lw_at lw_m2 159 rfl) rfl
theorem q549 : (Jvm.Cond.fieldLink "CoinJudge$Signing" (15 : Nat) "CoinJudge$Signing" "digest" "[B") ∈ lw_all := lw_g (lw_at lw_m2 160 rfl) rfl
theorem q550 : (Jvm.Cond.fieldLink "CoinJudge$Signing" (26 : Nat) "CoinJudge$Signing" "source" "[B") ∈ lw_all := lw_g (lw_at lw_m2 161 rfl) rfl
theorem q551 : (Jvm.Cond.fieldLink "CoinJudge$Signing" (29 : Nat) "CoinJudge$Signing" "tx" "LCoinJudge$Tx;") ∈ lw_all := lw_g (lw_at lw_m2 162 rfl) rfl
theorem q552 : (Jvm.Cond.fieldLink "CoinJudge$Signing" (33 : Nat) "CoinJudge$Signing" "input" "I") ∈ lw_all := lw_g (lw_at lw_m2 163 rfl) rfl
theorem q553 : (Jvm.Cond.laysFinal "CoinJudge$Signing" "CoinJudge$Signing" "digests" "LCoinJudge$Digests;") ∈ lw_all := lw_g (lw_at lw_m2 164 rfl) rfl
theorem q554 : (Jvm.Cond.soleField "CoinJudge$Signing" "digests") ∈ lw_all := lw_g (lw_at lw_m2 165 rfl) rfl
theorem q555 : (Jvm.Cond.laysFinal "CoinJudge$Signing" "CoinJudge$Signing" "curve" "LCoinJudge$Curve;") ∈ lw_all := lw_g (lw_at lw_m2 166 rfl) rfl
theorem q556 : (Jvm.Cond.soleField "CoinJudge$Signing" "curve") ∈ lw_all := lw_g (lw_at lw_m2 167 rfl) rfl
theorem q557 : (Jvm.Cond.laysFinal "CoinJudge$Signing" "CoinJudge$Signing" "bytes" "[B") ∈ lw_all := lw_g (lw_at lw_m2 168 rfl) rfl
theorem q558 : (Jvm.Cond.soleField "CoinJudge$Signing" "bytes") ∈ lw_all := lw_g (lw_at lw_m2 169 rfl) rfl
theorem q559 : (Jvm.Cond.lays "CoinJudge$Signing" "CoinJudge$Signing" "size" "I") ∈ lw_all := lw_g (lw_at lw_m2 170 rfl) rfl
theorem q560 : (Jvm.Cond.soleField "CoinJudge$Signing" "size") ∈ lw_all := lw_g (lw_at lw_m2 171 rfl) rfl
theorem q561 : (Jvm.Cond.laysFinal "CoinJudge$Signing" "CoinJudge$Signing" "digest" "[B") ∈ lw_all := lw_g (lw_at lw_m2 172 rfl) rfl
theorem q562 : (Jvm.Cond.soleField "CoinJudge$Signing" "digest") ∈ lw_all := lw_g (lw_at lw_m2 173 rfl) rfl
theorem q563 : (Jvm.Cond.lays "CoinJudge$Signing" "CoinJudge$Signing" "source" "[B") ∈ lw_all := lw_g (lw_at lw_m2 174 rfl) rfl
theorem q564 : (Jvm.Cond.soleField "CoinJudge$Signing" "source") ∈ lw_all := lw_g (lw_at lw_m2 175 rfl) rfl
theorem q565 : (Jvm.Cond.lays "CoinJudge$Signing" "CoinJudge$Signing" "tx" "LCoinJudge$Tx;") ∈ lw_all := lw_g (lw_at lw_m2 176 rfl) rfl
theorem q566 : (Jvm.Cond.soleField "CoinJudge$Signing" "tx") ∈ lw_all := lw_g (lw_at lw_m2 177 rfl) rfl
theorem q567 : (Jvm.Cond.lays "CoinJudge$Signing" "CoinJudge$Signing" "input" "I") ∈ lw_all := lw_g (lw_at lw_m2 178 rfl) rfl
theorem q568 : (Jvm.Cond.soleField "CoinJudge$Signing" "input") ∈ lw_all := lw_g (lw_at lw_m2 179 rfl) rfl
theorem q569 : (Jvm.Cond.superclass "CoinJudge$Signing" "java/lang/Object") ∈ lw_all := lw_g (lw_at lw_m2 180 rfl) rfl
theorem q570 : (Jvm.Cond.classLink "CoinJudge" (41 : Nat) "CoinJudge$Coins") ∈ lw_all := lw_g (lw_at lw_m2 181 rfl) rfl
theorem q571 : (Jvm.Cond.instantiable "CoinJudge$Coins" (3 : Nat)) ∈ lw_all := lw_g (lw_at lw_m2 182 rfl) rfl
theorem q572 : (Jvm.Cond.methodLinkNest "CoinJudge" (43 : Nat) ({ cls := "CoinJudge$Coins", name := "<init>", desc := "()V" } : Jvm.MethodName) "CoinJudge") ∈ lw_tbl := lw_at lw_m2 183 rfl
theorem q573 : (Jvm.Cond.instanceMethod ({ cls := "CoinJudge$Coins", name := "<init>", desc := "()V" } : Jvm.MethodName)) ∈ lw_all := lw_g (lw_at lw_m2 184 rfl) rfl
theorem q574 : (Jvm.Cond.code ({ cls := "CoinJudge$Coins", name := "<init>", desc := "()V" } : Jvm.MethodName) prog_6_method_1_code (1 : Nat) (Option.none : Option Jvm.ClassFile.FieldType)) ∈ lw_all := lw_g (lw_at lw_m2 185 rfl) rfl
theorem q575 : (Jvm.Cond.methodLink "CoinJudge$Coins" (1 : Nat) ({ cls := "java/lang/Object", name := "<init>", desc := "()V" } : Jvm.MethodName)) ∈ lw_all := lw_g (lw_at lw_m2 186 rfl) rfl
theorem q576 : (Jvm.Cond.classLink "CoinJudge$Coins" (7 : Nat) "CoinJudge$Coin") ∈ lw_all := lw_g (lw_at lw_m2 187 rfl) rfl
theorem q577 : (Jvm.Cond.arrayOver (Jvm.ClassFile.FieldType.object "CoinJudge$Coin")) ∈ lw_tbl := lw_at lw_m2 188 rfl
theorem q578 : (Jvm.Cond.fieldLink "CoinJudge$Coins" (9 : Nat) "CoinJudge$Coins" "places" "[LCoinJudge$Coin;") ∈ lw_all := lw_g (lw_at lw_m2 189 rfl) rfl
theorem q579 : (Jvm.Cond.fieldLink "CoinJudge$Coins" (51 : Nat) "CoinJudge$Coins" "count" "I") ∈ lw_all := lw_g (lw_at lw_m2 190 rfl) rfl
theorem q580 : (Jvm.Cond.fieldLinkNest "CoinJudge" (459 : Nat) "CoinJudge$Coins" "count" "I" "CoinJudge") ∈ lw_tbl := lw_at lw_m2 191 rfl
theorem q581 : (Jvm.Cond.fieldLink "CoinJudge$Coins" (40 : Nat) "CoinJudge$Coins" "value" "J") ∈ lw_all := lw_g (lw_at lw_m2 192 rfl) rfl
theorem q582 : (Jvm.Cond.fieldLinkNest "CoinJudge" (617 : Nat) "CoinJudge$Coins" "value" "J" "CoinJudge") ∈ lw_tbl := lw_at lw_m2 193 rfl
theorem q583 : (Jvm.Cond.laysFinal "CoinJudge$Coins" "CoinJudge$Coins" "places" "[LCoinJudge$Coin;") ∈ lw_all := lw_g (lw_at lw_m2 194 rfl) rfl
theorem q584 : (Jvm.Cond.soleField "CoinJudge$Coins" "places") ∈ lw_all := lw_g (lw_at lw_m2 195 rfl) rfl
theorem q585 : (Jvm.Cond.lays "CoinJudge$Coins" "CoinJudge$Coins" "count" "I") ∈ lw_all := lw_g (lw_at lw_m2 196 rfl) rfl
theorem q586 : (Jvm.Cond.soleField "CoinJudge$Coins" "count") ∈ lw_all := lw_g (lw_at lw_m2 197 rfl) rfl
theorem q587 : (Jvm.Cond.lays "CoinJudge$Coins" "CoinJudge$Coins" "value" "J") ∈ lw_all := lw_g (lw_at lw_m2 198 rfl) rfl
theorem q588 : (Jvm.Cond.soleField "CoinJudge$Coins" "value") ∈ lw_all := lw_g (lw_at lw_m2 199 rfl) rfl
theorem q589 : (Jvm.Cond.superclass "CoinJudge$Coins" "java/lang/Object") ∈ lw_all := lw_g (lw_at lw_m2 200 rfl) rfl
theorem q590 : (Jvm.Cond.classLink "CoinJudge" (48 : Nat) "CoinJudge$Block") ∈ lw_all := lw_g (lw_at lw_m2 201 rfl) rfl
theorem q591 : (Jvm.Cond.arrayOver (Jvm.ClassFile.FieldType.object "CoinJudge$Block")) ∈ lw_tbl := lw_at lw_m2 202 rfl
theorem q592 : (Jvm.Cond.classLink "CoinJudge" (64 : Nat) "CoinJudge$Big") ∈ lw_all := lw_g (lw_at lw_m2 203 rfl) rfl
theorem q593 : (Jvm.Cond.methodLinkNest "CoinJudge" (66 : Nat) ({ cls := "CoinJudge$Big", name := "<init>", desc := "()V" } : Jvm.MethodName) "CoinJudge") ∈ lw_tbl := lw_at lw_m2 204 rfl
theorem q594 : (Jvm.Cond.methodLink "CoinJudge" (74 : Nat) ({ cls := "CoinJudge$Big", name := "small", desc := "(J)LCoinJudge$Big;" } : Jvm.MethodName)) ∈ lw_all := lw_g (lw_at lw_m2 205 rfl) rfl
theorem q595 : (Jvm.Cond.classLink "CoinJudge" (81 : Nat) "CoinJudge$Draft") ∈ lw_all := lw_g (lw_at lw_m2 206 rfl) rfl
theorem q596 : (Jvm.Cond.instantiable "CoinJudge$Draft" (5 : Nat)) ∈ lw_all := lw_g (lw_at lw_m2 207 rfl) rfl
theorem q597 : (Jvm.Cond.methodLinkNest "CoinJudge" (83 : Nat) ({ cls := "CoinJudge$Draft", name := "<init>", desc := "()V" } : Jvm.MethodName) "CoinJudge") ∈ lw_tbl := lw_at lw_m2 208 rfl
theorem q598 : (Jvm.Cond.instanceMethod ({ cls := "CoinJudge$Draft", name := "<init>", desc := "()V" } : Jvm.MethodName)) ∈ lw_all := lw_g (lw_at lw_m2 209 rfl) rfl
theorem q599 : (Jvm.Cond.code ({ cls := "CoinJudge$Draft", name := "<init>", desc := "()V" } : Jvm.MethodName) prog_9_method_1_code (1 : Nat) (Option.none : Option Jvm.ClassFile.FieldType)) ∈ lw_all := lw_g (lw_at lw_m2 210 rfl) rfl
theorem q600 : (Jvm.Cond.methodLink "CoinJudge$Draft" (3 : Nat) ({ cls := "java/lang/Object", name := "<init>", desc := "()V" } : Jvm.MethodName)) ∈ lw_all := lw_g (lw_at lw_m2 211 rfl) rfl
theorem q601 : (Jvm.Cond.classLink "CoinJudge$Draft" (9 : Nat) "CoinJudge$DraftTx") ∈ lw_all := lw_g (lw_at lw_m2 212 rfl) rfl
theorem q602 : (Jvm.Cond.arrayOver (Jvm.ClassFile.FieldType.object "CoinJudge$DraftTx")) ∈ lw_tbl := lw_at lw_m2 213 rfl
theorem q603 : (Jvm.Cond.classLink "CoinJudge$Draft" (17 : Nat) "CoinJudge$Sink") ∈ lw_all := lw_g (lw_at lw_m2 214 rfl) rfl
theorem q604 : (Jvm.Cond.instantiable "CoinJudge$Sink" (2 : Nat)) ∈ lw_all := lw_g (lw_at lw_m2 215 rfl) rfl
theorem q605 : (Jvm.Cond.methodLink "CoinJudge$Draft" (19 : Nat) ({ cls := "CoinJudge$Sink", name := "<init>", desc := "(I)V" } : Jvm.MethodName)) ∈ lw_all := lw_g (lw_at lw_m2 216 rfl) rfl
theorem q606 : (Jvm.Cond.instanceMethod ({ cls := "CoinJudge$Sink", name := "<init>", desc := "(I)V" } : Jvm.MethodName)) ∈ lw_all := lw_g (lw_at lw_m2 217 rfl) rfl
theorem q607 : (Jvm.Cond.code ({ cls := "CoinJudge$Sink", name := "<init>", desc := "(I)V" } : Jvm.MethodName) prog_22_method_1_code (2 : Nat) (Option.none : Option Jvm.ClassFile.FieldType)) ∈ lw_all := lw_g (lw_at lw_m2 218 rfl) rfl
theorem q608 : (Jvm.Cond.methodLink "CoinJudge$Sink" (1 : Nat) ({ cls := "java/lang/Object", name := "<init>", desc := "()V" } : Jvm.MethodName)) ∈ lw_all := lw_g (lw_at lw_m2 219 rfl) rfl
theorem q609 : (Jvm.Cond.fieldLink "CoinJudge$Sink" (7 : Nat) "CoinJudge$Sink" "bytes" "[B") ∈ lw_all := lw_g (lw_at lw_m2 220 rfl) rfl
theorem q610 : (Jvm.Cond.fieldLinkNest "CoinJudge$DraftTx" (57 : Nat) "CoinJudge$Sink" "bytes" "[B" "CoinJudge") ∈ lw_tbl := lw_at lw_m2 221 rfl
theorem q611 : (Jvm.Cond.fieldLinkNest "CoinJudge" (531 : Nat) "CoinJudge$Sink" "bytes" "[B" "CoinJudge") ∈ lw_tbl := lw_at lw_m2 222 rfl
theorem q612 : (Jvm.Cond.fieldLink "CoinJudge$Sink" (13 : Nat) "CoinJudge$Sink" "size" "I") ∈ lw_all := lw_g (lw_at lw_m2 223 rfl) rfl
theorem q613 : (Jvm.Cond.fieldLinkNest "CoinJudge$DraftTx" (54 : Nat) "CoinJudge$Sink" "size" "I" "CoinJudge") ∈ lw_tbl := lw_at lw_m2 224 rfl
theorem q614 : (Jvm.Cond.fieldLinkNest "CoinJudge" (522 : Nat) "CoinJudge$Sink" "size" "I" "CoinJudge") ∈ lw_tbl := lw_at lw_m2 225 rfl
theorem q615 : (Jvm.Cond.laysFinal "CoinJudge$Sink" "CoinJudge$Sink" "bytes" "[B") ∈ lw_all := lw_g (lw_at lw_m2 226 rfl) rfl
theorem q616 : (Jvm.Cond.soleField "CoinJudge$Sink" "bytes") ∈ lw_all := lw_g (lw_at lw_m2 227 rfl) rfl
theorem q617 : (Jvm.Cond.lays "CoinJudge$Sink" "CoinJudge$Sink" "size" "I") ∈ lw_all := lw_g (lw_at lw_m2 228 rfl) rfl
theorem q618 : (Jvm.Cond.soleField "CoinJudge$Sink" "size") ∈ lw_all := lw_g (lw_at lw_m2 229 rfl) rfl
theorem q619 : (Jvm.Cond.superclass "CoinJudge$Sink" "java/lang/Object") ∈ lw_all := lw_g (lw_at lw_m2 230 rfl) rfl
theorem q620 : (Jvm.Cond.fieldLink "CoinJudge$Draft" (26 : Nat) "CoinJudge$Draft" "parent" "LCoinJudge$Block;") ∈ lw_all := lw_g (lw_at lw_m2 231 rfl) rfl
theorem q621 : (Jvm.Cond.fieldLinkNest "CoinJudge" (510 : Nat) "CoinJudge$Draft" "parent" "LCoinJudge$Block;" "CoinJudge") ∈ lw_tbl := lw_at lw_m2 232 rfl
theorem q622 : (Jvm.Cond.fieldLink "CoinJudge$Draft" (30 : Nat) "CoinJudge$Draft" "time" "J") ∈ lw_all := lw_g (lw_at lw_m2 233 rfl) rfl
theorem q623 : (Jvm.Cond.fieldLinkNest "CoinJudge" (518 : Nat) "CoinJudge$Draft" "time" "J" "CoinJudge") ∈ lw_tbl := lw_at lw_m2 234 rfl
theorem q624 : (Jvm.Cond.fieldLink "CoinJudge$Draft" (11 : Nat) "CoinJudge$Draft" "txs" "[LCoinJudge$DraftTx;") ∈ lw_all := lw_g (lw_at lw_m2 235 rfl) rfl
theorem q625 : (Jvm.Cond.fieldLinkNest "CoinJudge" (523 : Nat) "CoinJudge$Draft" "txs" "[LCoinJudge$DraftTx;" "CoinJudge") ∈ lw_tbl := lw_at lw_m2 236 rfl
theorem q626 : (Jvm.Cond.fieldLink "CoinJudge$Draft" (34 : Nat) "CoinJudge$Draft" "count" "I") ∈ lw_all := lw_g (lw_at lw_m2 237 rfl) rfl
theorem q627 : (Jvm.Cond.fieldLinkNest "CoinJudge" (519 : Nat) "CoinJudge$Draft" "count" "I" "CoinJudge") ∈ lw_tbl := lw_at lw_m2 238 rfl
theorem q628 : (Jvm.Cond.fieldLink "CoinJudge$Draft" (22 : Nat) "CoinJudge$Draft" "sink" "LCoinJudge$Sink;") ∈ lw_all := lw_g (lw_at lw_m2 239 rfl) rfl
theorem q629 : (Jvm.Cond.fieldLinkNest "CoinJudge" (506 : Nat) "CoinJudge$Draft" "sink" "LCoinJudge$Sink;" "CoinJudge") ∈ lw_tbl := lw_at lw_m3 0 rfl
theorem q630 : (Jvm.Cond.lays "CoinJudge$Draft" "CoinJudge$Draft" "parent" "LCoinJudge$Block;") ∈ lw_all := lw_g (lw_at lw_m3 1 rfl) rfl
theorem q631 : (Jvm.Cond.soleField "CoinJudge$Draft" "parent") ∈ lw_all := lw_g (lw_at lw_m3 2 rfl) rfl
theorem q632 : (Jvm.Cond.lays "CoinJudge$Draft" "CoinJudge$Draft" "time" "J") ∈ lw_all := lw_g (lw_at lw_m3 3 rfl) rfl
theorem q633 : (Jvm.Cond.soleField "CoinJudge$Draft" "time") ∈ lw_all := lw_g (lw_at lw_m3 4 rfl) rfl
theorem q634 : (Jvm.Cond.laysFinal "CoinJudge$Draft" "CoinJudge$Draft" "txs" "[LCoinJudge$DraftTx;") ∈ lw_all := lw_g (lw_at lw_m3 5 rfl) rfl
theorem q635 : (Jvm.Cond.soleField "CoinJudge$Draft" "txs") ∈ lw_all := lw_g (lw_at lw_m3 6 rfl) rfl
theorem q636 : (Jvm.Cond.lays "CoinJudge$Draft" "CoinJudge$Draft" "count" "I") ∈ lw_all := lw_g (lw_at lw_m3 7 rfl) rfl
theorem q637 : (Jvm.Cond.soleField "CoinJudge$Draft" "count") ∈ lw_all := lw_g (lw_at lw_m3 8 rfl) rfl
theorem q638 : (Jvm.Cond.laysFinal "CoinJudge$Draft" "CoinJudge$Draft" "sink" "LCoinJudge$Sink;") ∈ lw_all := lw_g (lw_at lw_m3 9 rfl) rfl
theorem q639 : (Jvm.Cond.soleField "CoinJudge$Draft" "sink") ∈ lw_all := lw_g (lw_at lw_m3 10 rfl) rfl
theorem q640 : (Jvm.Cond.superclass "CoinJudge$Draft" "java/lang/Object") ∈ lw_all := lw_g (lw_at lw_m3 11 rfl) rfl
theorem q641 : (Jvm.Cond.classLink "CoinJudge" (88 : Nat) "CoinJudge$Sink") ∈ lw_all := lw_g (lw_at lw_m3 12 rfl) rfl
theorem q642 : (Jvm.Cond.methodLink "CoinJudge" (90 : Nat) ({ cls := "CoinJudge$Sink", name := "<init>", desc := "(I)V" } : Jvm.MethodName)) ∈ lw_all := lw_g (lw_at lw_m3 13 rfl) rfl
theorem q643 : (Jvm.Cond.constantLong "CoinJudge" (97 : Nat) (1000000 : Int64)) ∈ lw_all := lw_g (lw_at lw_m3 14 rfl) rfl
theorem q644 : (Jvm.Cond.methodLink "CoinJudge" (99 : Nat) ({ cls := "CoinJudge$Draft", name := "open", desc := "(LCoinJudge$Block;J)V" } : Jvm.MethodName)) ∈ lw_all := lw_g (lw_at lw_m3 15 rfl) rfl
theorem q645 : (Jvm.Cond.instanceMethod ({ cls := "CoinJudge$Draft", name := "open", desc := "(LCoinJudge$Block;J)V" } : Jvm.MethodName)) ∈ lw_all := lw_g (lw_at lw_m3 16 rfl) rfl
theorem q646 : (Jvm.Cond.selects "CoinJudge$Draft" ({ cls := "CoinJudge$Draft", name := "open", desc := "(LCoinJudge$Block;J)V" } : Jvm.MethodName) ({ cls := "CoinJudge$Draft", name := "open", desc := "(LCoinJudge$Block;J)V" } : Jvm.MethodName)) ∈ lw_all := lw_g (lw_at lw_m3 17 rfl) rfl
theorem q647 : (Jvm.Cond.code ({ cls := "CoinJudge$Draft", name := "open", desc := "(LCoinJudge$Block;J)V" } : Jvm.MethodName) prog_9_method_2_code (4 : Nat) (Option.none : Option Jvm.ClassFile.FieldType)) ∈ lw_all := lw_g (lw_at lw_m3 18 rfl) rfl
theorem q648 : (Jvm.Cond.methodLink "CoinJudge" (103 : Nat) ({ cls := "CoinJudge$Draft", name := "add", desc := "(JJ)V" } : Jvm.MethodName)) ∈ lw_all := lw_g (lw_at lw_m3 19 rfl) rfl
theorem q649 : (Jvm.Cond.instanceMethod ({ cls := "CoinJudge$Draft", name := "add", desc := "(JJ)V" } : Jvm.MethodName)) ∈ lw_all := lw_g (lw_at lw_m3 20 rfl) rfl
theorem q650 : (Jvm.Cond.selects "CoinJudge$Draft" ({ cls := "CoinJudge$Draft", name := "add", desc := "(JJ)V" } : Jvm.MethodName) ({ cls := "CoinJudge$Draft", name := "add", desc := "(JJ)V" } : Jvm.MethodName)) ∈ lw_all := lw_g (lw_at lw_m3 21 rfl) rfl
theorem q651 : (Jvm.Cond.code ({ cls := "CoinJudge$Draft", name := "add", desc := "(JJ)V" } : Jvm.MethodName) prog_9_method_3_code (6 : Nat) (Option.none : Option Jvm.ClassFile.FieldType)) ∈ lw_all := lw_g (lw_at lw_m3 22 rfl) rfl
theorem q652 : (Jvm.Cond.instantiable "CoinJudge$DraftTx" (6 : Nat)) ∈ lw_all := lw_g (lw_at lw_m3 23 rfl) rfl
theorem q653 : (Jvm.Cond.methodLinkNest "CoinJudge$Draft" (38 : Nat) ({ cls := "CoinJudge$DraftTx", name := "<init>", desc := "()V" } : Jvm.MethodName) "CoinJudge") ∈ lw_tbl := lw_at lw_m3 24 rfl
theorem q654 : (Jvm.Cond.instanceMethod ({ cls := "CoinJudge$DraftTx", name := "<init>", desc := "()V" } : Jvm.MethodName)) ∈ lw_all := lw_g (lw_at lw_m3 25 rfl) rfl
theorem q655 : (Jvm.Cond.code ({ cls := "CoinJudge$DraftTx", name := "<init>", desc := "()V" } : Jvm.MethodName) prog_12_method_1_code (1 : Nat) (Option.none : Option Jvm.ClassFile.FieldType)) ∈ lw_all := lw_g (lw_at lw_m3 26 rfl) rfl
theorem q656 : (Jvm.Cond.methodLink "CoinJudge$DraftTx" (1 : Nat) ({ cls := "java/lang/Object", name := "<init>", desc := "()V" } : Jvm.MethodName)) ∈ lw_all := lw_g (lw_at lw_m3 27 rfl) rfl
theorem q657 : (Jvm.Cond.classLink "CoinJudge$DraftTx" (9 : Nat) "CoinJudge$DraftInput") ∈ lw_all := lw_g (lw_at lw_m3 28 rfl) rfl
theorem q658 : (Jvm.Cond.arrayOver (Jvm.ClassFile.FieldType.object "CoinJudge$DraftInput")) ∈ lw_tbl := lw_at lw_m3 29 rfl
theorem q659 : (Jvm.Cond.classLink "CoinJudge$DraftTx" (15 : Nat) "CoinJudge$DraftOutput") ∈ lw_all := lw_g (lw_at lw_m3 30 rfl) rfl
theorem q660 : (Jvm.Cond.arrayOver (Jvm.ClassFile.FieldType.object "CoinJudge$DraftOutput")) ∈ lw_tbl := lw_at lw_m3 31 rfl
theorem q661 : (Jvm.Cond.fieldLink "CoinJudge$DraftTx" (21 : Nat) "CoinJudge$DraftTx" "version" "J") ∈ lw_all := lw_g (lw_at lw_m3 32 rfl) rfl
theorem q662 : (Jvm.Cond.fieldLinkNest "CoinJudge$Draft" (39 : Nat) "CoinJudge$DraftTx" "version" "J" "CoinJudge") ∈ lw_tbl := lw_at lw_m3 33 rfl
theorem q663 : (Jvm.Cond.fieldLink "CoinJudge$DraftTx" (70 : Nat) "CoinJudge$DraftTx" "lock" "J") ∈ lw_all := lw_g (lw_at lw_m3 34 rfl) rfl
theorem q664 : (Jvm.Cond.fieldLinkNest "CoinJudge$Draft" (42 : Nat) "CoinJudge$DraftTx" "lock" "J" "CoinJudge") ∈ lw_tbl := lw_at lw_m3 35 rfl
theorem q665 : (Jvm.Cond.fieldLink "CoinJudge$DraftTx" (11 : Nat) "CoinJudge$DraftTx" "inputs" "[LCoinJudge$DraftInput;") ∈ lw_all := lw_g (lw_at lw_m3 36 rfl) rfl
theorem q666 : (Jvm.Cond.fieldLinkNest "CoinJudge$Draft" (55 : Nat) "CoinJudge$DraftTx" "inputs" "[LCoinJudge$DraftInput;" "CoinJudge") ∈ lw_tbl := lw_at lw_m3 37 rfl
theorem q667 : (Jvm.Cond.fieldLinkNest "CoinJudge" (571 : Nat) "CoinJudge$DraftTx" "inputs" "[LCoinJudge$DraftInput;" "CoinJudge") ∈ lw_tbl := lw_at lw_m3 38 rfl
theorem q668 : (Jvm.Cond.fieldLink "CoinJudge$DraftTx" (17 : Nat) "CoinJudge$DraftTx" "outputs" "[LCoinJudge$DraftOutput;") ∈ lw_all := lw_g (lw_at lw_m3 39 rfl) rfl
theorem q669 : (Jvm.Cond.fieldLinkNest "CoinJudge$Draft" (82 : Nat) "CoinJudge$DraftTx" "outputs" "[LCoinJudge$DraftOutput;" "CoinJudge") ∈ lw_tbl := lw_at lw_m3 40 rfl
theorem q670 : (Jvm.Cond.fieldLink "CoinJudge$DraftTx" (31 : Nat) "CoinJudge$DraftTx" "inputCount" "I") ∈ lw_all := lw_g (lw_at lw_m3 41 rfl) rfl
theorem q671 : (Jvm.Cond.fieldLinkNest "CoinJudge$Draft" (45 : Nat) "CoinJudge$DraftTx" "inputCount" "I" "CoinJudge") ∈ lw_tbl := lw_at lw_m3 42 rfl
theorem q672 : (Jvm.Cond.fieldLinkNest "CoinJudge" (565 : Nat) "CoinJudge$DraftTx" "inputCount" "I" "CoinJudge") ∈ lw_tbl := lw_at lw_m3 43 rfl
theorem q673 : (Jvm.Cond.fieldLink "CoinJudge$DraftTx" (63 : Nat) "CoinJudge$DraftTx" "outputCount" "I") ∈ lw_all := lw_g (lw_at lw_m3 44 rfl) rfl
theorem q674 : (Jvm.Cond.fieldLinkNest "CoinJudge$Draft" (48 : Nat) "CoinJudge$DraftTx" "outputCount" "I" "CoinJudge") ∈ lw_tbl := lw_at lw_m3 45 rfl
theorem q675 : (Jvm.Cond.fieldLinkNest "CoinJudge" (568 : Nat) "CoinJudge$DraftTx" "outputCount" "I" "CoinJudge") ∈ lw_tbl := lw_at lw_m3 46 rfl
theorem q676 : (Jvm.Cond.lays "CoinJudge$DraftTx" "CoinJudge$DraftTx" "version" "J") ∈ lw_all := lw_g (lw_at lw_m3 47 rfl) rfl
theorem q677 : (Jvm.Cond.soleField "CoinJudge$DraftTx" "version") ∈ lw_all := lw_g (lw_at lw_m3 48 rfl) rfl
theorem q678 : (Jvm.Cond.lays "CoinJudge$DraftTx" "CoinJudge$DraftTx" "lock" "J") ∈ lw_all := lw_g (lw_at lw_m3 49 rfl) rfl
theorem q679 : (Jvm.Cond.soleField "CoinJudge$DraftTx" "lock") ∈ lw_all := lw_g (lw_at lw_m3 50 rfl) rfl
theorem q680 : (Jvm.Cond.laysFinal "CoinJudge$DraftTx" "CoinJudge$DraftTx" "inputs" "[LCoinJudge$DraftInput;") ∈ lw_all := lw_g (lw_at lw_m3 51 rfl) rfl
theorem q681 : (Jvm.Cond.soleField "CoinJudge$DraftTx" "inputs") ∈ lw_all := lw_g (lw_at lw_m3 52 rfl) rfl
theorem q682 : (Jvm.Cond.laysFinal "CoinJudge$DraftTx" "CoinJudge$DraftTx" "outputs" "[LCoinJudge$DraftOutput;") ∈ lw_all := lw_g (lw_at lw_m3 53 rfl) rfl
theorem q683 : (Jvm.Cond.soleField "CoinJudge$DraftTx" "outputs") ∈ lw_all := lw_g (lw_at lw_m3 54 rfl) rfl
theorem q684 : (Jvm.Cond.lays "CoinJudge$DraftTx" "CoinJudge$DraftTx" "inputCount" "I") ∈ lw_all := lw_g (lw_at lw_m3 55 rfl) rfl
theorem q685 : (Jvm.Cond.soleField "CoinJudge$DraftTx" "inputCount") ∈ lw_all := lw_g (lw_at lw_m3 56 rfl) rfl
theorem q686 : (Jvm.Cond.lays "CoinJudge$DraftTx" "CoinJudge$DraftTx" "outputCount" "I") ∈ lw_all := lw_g (lw_at lw_m3 57 rfl) rfl
theorem q687 : (Jvm.Cond.soleField "CoinJudge$DraftTx" "outputCount") ∈ lw_all := lw_g (lw_at lw_m3 58 rfl) rfl
theorem q688 : (Jvm.Cond.superclass "CoinJudge$DraftTx" "java/lang/Object") ∈ lw_all := lw_g (lw_at lw_m3 59 rfl) rfl
theorem q689 : (Jvm.Cond.constantLong "CoinJudge" (107 : Nat) (4294967295 : Int64)) ∈ lw_all := lw_g (lw_at lw_m3 60 rfl) rfl
theorem q690 : (Jvm.Cond.methodLink "CoinJudge" (109 : Nat) ({ cls := "CoinJudge$Draft", name := "input", desc := "([BIJ[BI)V" } : Jvm.MethodName)) ∈ lw_all := lw_g (lw_at lw_m3 61 rfl) rfl
theorem q691 : (Jvm.Cond.instanceMethod ({ cls := "CoinJudge$Draft", name := "input", desc := "([BIJ[BI)V" } : Jvm.MethodName)) ∈ lw_all := lw_g (lw_at lw_m3 62 rfl) rfl
theorem q692 : (Jvm.Cond.selects "CoinJudge$Draft" ({ cls := "CoinJudge$Draft", name := "input", desc := "([BIJ[BI)V" } : Jvm.MethodName) ({ cls := "CoinJudge$Draft", name := "input", desc := "([BIJ[BI)V" } : Jvm.MethodName)) ∈ lw_all := lw_g (lw_at lw_m3 63 rfl) rfl
theorem q693 : (Jvm.Cond.code ({ cls := "CoinJudge$Draft", name := "input", desc := "([BIJ[BI)V" } : Jvm.MethodName) prog_9_method_5_code (10 : Nat) (Option.none : Option Jvm.ClassFile.FieldType)) ∈ lw_all := lw_g (lw_at lw_m3 64 rfl) rfl
theorem q694 : (Jvm.Cond.methodLink "CoinJudge$Draft" (51 : Nat) ({ cls := "CoinJudge$Draft", name := "latest", desc := "()LCoinJudge$DraftTx;" } : Jvm.MethodName)) ∈ lw_all := lw_g (lw_at lw_m3 65 rfl) rfl
theorem q695 : (Jvm.Cond.instanceMethod ({ cls := "CoinJudge$Draft", name := "latest", desc := "()LCoinJudge$DraftTx;" } : Jvm.MethodName)) ∈ lw_all := lw_g (lw_at lw_m3 66 rfl) rfl
theorem q696 : (Jvm.Cond.selects "CoinJudge$Draft" ({ cls := "CoinJudge$Draft", name := "latest", desc := "()LCoinJudge$DraftTx;" } : Jvm.MethodName) ({ cls := "CoinJudge$Draft", name := "latest", desc := "()LCoinJudge$DraftTx;" } : Jvm.MethodName)) ∈ lw_all := lw_g (lw_at lw_m3 67 rfl) rfl
theorem q697 : (Jvm.Cond.code ({ cls := "CoinJudge$Draft", name := "latest", desc := "()LCoinJudge$DraftTx;" } : Jvm.MethodName) prog_9_method_4_code (1 : Nat) (Option.some (Jvm.ClassFile.FieldType.object "CoinJudge$DraftTx"))) ∈ lw_all := lw_g (lw_at lw_m3 68 rfl) rfl
theorem q698 : (Jvm.Cond.classLink "CoinJudge$Draft" (59 : Nat) "CoinJudge$DraftInput") ∈ lw_all := lw_g (lw_at lw_m3 69 rfl) rfl
theorem q699 : (Jvm.Cond.instantiable "CoinJudge$DraftInput" (4 : Nat)) ∈ lw_all := lw_g (lw_at lw_m3 70 rfl) rfl
theorem q700 : (Jvm.Cond.methodLinkNest "CoinJudge$Draft" (61 : Nat) ({ cls := "CoinJudge$DraftInput", name := "<init>", desc := "()V" } : Jvm.MethodName) "CoinJudge") ∈ lw_tbl := lw_at lw_m3 71 rfl
theorem q701 : (Jvm.Cond.instanceMethod ({ cls := "CoinJudge$DraftInput", name := "<init>", desc := "()V" } : Jvm.MethodName)) ∈ lw_all := lw_g (lw_at lw_m3 72 rfl) rfl
theorem q702 : (Jvm.Cond.code ({ cls := "CoinJudge$DraftInput", name := "<init>", desc := "()V" } : Jvm.MethodName) prog_10_method_1_code (1 : Nat) (Option.none : Option Jvm.ClassFile.FieldType)) ∈ lw_all := lw_g (lw_at lw_m3 73 rfl) rfl
theorem q703 : (Jvm.Cond.methodLink "CoinJudge$DraftInput" (1 : Nat) ({ cls := "java/lang/Object", name := "<init>", desc := "()V" } : Jvm.MethodName)) ∈ lw_all := lw_g (lw_at lw_m3 74 rfl) rfl
theorem q704 : (Jvm.Cond.classLink "CoinJudge$DraftInput" (13 : Nat) "CoinJudge$Sink") ∈ lw_all := lw_g (lw_at lw_m3 75 rfl) rfl
theorem q705 : (Jvm.Cond.methodLink "CoinJudge$DraftInput" (15 : Nat) ({ cls := "CoinJudge$Sink", name := "<init>", desc := "(I)V" } : Jvm.MethodName)) ∈ lw_all := lw_g (lw_at lw_m3 76 rfl) rfl
theorem q706 : (Jvm.Cond.fieldLink "CoinJudge$DraftInput" (7 : Nat) "CoinJudge$DraftInput" "txid" "[B") ∈ lw_all := lw_g (lw_at lw_m3 77 rfl) rfl
theorem q707 : (Jvm.Cond.fieldLinkNest "CoinJudge$DraftTx" (39 : Nat) "CoinJudge$DraftInput" "txid" "[B" "CoinJudge") ∈ lw_tbl := lw_at lw_m3 78 rfl
theorem q708 : (Jvm.Cond.fieldLinkNest "CoinJudge$Draft" (62 : Nat) "CoinJudge$DraftInput" "txid" "[B" "CoinJudge") ∈ lw_tbl := lw_at lw_m3 79 rfl
theorem q709 : (Jvm.Cond.fieldLinkNest "CoinJudge$DraftTx" (47 : Nat) "CoinJudge$DraftInput" "index" "I" "CoinJudge") ∈ lw_tbl := lw_at lw_m3 80 rfl
theorem q710 : (Jvm.Cond.fieldLinkNest "CoinJudge$Draft" (66 : Nat) "CoinJudge$DraftInput" "index" "I" "CoinJudge") ∈ lw_tbl := lw_at lw_m3 81 rfl
theorem q711 : (Jvm.Cond.fieldLinkNest "CoinJudge$DraftTx" (60 : Nat) "CoinJudge$DraftInput" "sequence" "J" "CoinJudge") ∈ lw_tbl := lw_at lw_m3 82 rfl
theorem q712 : (Jvm.Cond.fieldLinkNest "CoinJudge$Draft" (69 : Nat) "CoinJudge$DraftInput" "sequence" "J" "CoinJudge") ∈ lw_tbl := lw_at lw_m3 83 rfl
theorem q713 : (Jvm.Cond.fieldLink "CoinJudge$DraftInput" (18 : Nat) "CoinJudge$DraftInput" "script" "LCoinJudge$Sink;") ∈ lw_all := lw_g (lw_at lw_m3 84 rfl) rfl
theorem q714 : (Jvm.Cond.fieldLinkNest "CoinJudge$DraftTx" (50 : Nat) "CoinJudge$DraftInput" "script" "LCoinJudge$Sink;" "CoinJudge") ∈ lw_tbl := lw_at lw_m3 85 rfl
theorem q715 : (Jvm.Cond.fieldLinkNest "CoinJudge$Draft" (72 : Nat) "CoinJudge$DraftInput" "script" "LCoinJudge$Sink;" "CoinJudge") ∈ lw_tbl := lw_at lw_m3 86 rfl
theorem q716 : (Jvm.Cond.fieldLinkNest "CoinJudge" (578 : Nat) "CoinJudge$DraftInput" "script" "LCoinJudge$Sink;" "CoinJudge") ∈ lw_tbl := lw_at lw_m3 87 rfl
theorem q717 : (Jvm.Cond.laysFinal "CoinJudge$DraftInput" "CoinJudge$DraftInput" "txid" "[B") ∈ lw_all := lw_g (lw_at lw_m3 88 rfl) rfl
theorem q718 : (Jvm.Cond.soleField "CoinJudge$DraftInput" "txid") ∈ lw_all := lw_g (lw_at lw_m3 89 rfl) rfl
theorem q719 : (Jvm.Cond.lays "CoinJudge$DraftInput" "CoinJudge$DraftInput" "index" "I") ∈ lw_all := lw_g (lw_at lw_m3 90 rfl) rfl
theorem q720 : (Jvm.Cond.soleField "CoinJudge$DraftInput" "index") ∈ lw_all := lw_g (lw_at lw_m3 91 rfl) rfl
theorem q721 : (Jvm.Cond.lays "CoinJudge$DraftInput" "CoinJudge$DraftInput" "sequence" "J") ∈ lw_all := lw_g (lw_at lw_m3 92 rfl) rfl
theorem q722 : (Jvm.Cond.soleField "CoinJudge$DraftInput" "sequence") ∈ lw_all := lw_g (lw_at lw_m3 93 rfl) rfl
theorem q723 : (Jvm.Cond.laysFinal "CoinJudge$DraftInput" "CoinJudge$DraftInput" "script" "LCoinJudge$Sink;") ∈ lw_all := lw_g (lw_at lw_m3 94 rfl) rfl
theorem q724 : (Jvm.Cond.soleField "CoinJudge$DraftInput" "script") ∈ lw_all := lw_g (lw_at lw_m3 95 rfl) rfl
theorem q725 : (Jvm.Cond.superclass "CoinJudge$DraftInput" "java/lang/Object") ∈ lw_all := lw_g (lw_at lw_m3 96 rfl) rfl
theorem q726 : (Jvm.Cond.methodLink "CoinJudge$Draft" (75 : Nat) ({ cls := "CoinJudge$Sink", name := "clear", desc := "()V" } : Jvm.MethodName)) ∈ lw_all := lw_g (lw_at lw_m3 97 rfl) rfl
theorem q727 : (Jvm.Cond.instanceMethod ({ cls := "CoinJudge$Sink", name := "clear", desc := "()V" } : Jvm.MethodName)) ∈ lw_all := lw_g (lw_at lw_m3 98 rfl) rfl
theorem q728 : (Jvm.Cond.selects "CoinJudge$Sink" ({ cls := "CoinJudge$Sink", name := "clear", desc := "()V" } : Jvm.MethodName) ({ cls := "CoinJudge$Sink", name := "clear", desc := "()V" } : Jvm.MethodName)) ∈ lw_all := lw_g (lw_at lw_m3 99 rfl) rfl
theorem q729 : (Jvm.Cond.code ({ cls := "CoinJudge$Sink", name := "clear", desc := "()V" } : Jvm.MethodName) prog_22_method_2_code (1 : Nat) (Option.none : Option Jvm.ClassFile.FieldType)) ∈ lw_all := lw_g (lw_at lw_m3 100 rfl) rfl
theorem q730 : (Jvm.Cond.methodLink "CoinJudge$Draft" (78 : Nat) ({ cls := "CoinJudge$Sink", name := "copy", desc := "([BII)V" } : Jvm.MethodName)) ∈ lw_all := lw_g (lw_at lw_m3 101 rfl) rfl
theorem q731 : (Jvm.Cond.instanceMethod ({ cls := "CoinJudge$Sink", name := "copy", desc := "([BII)V" } : Jvm.MethodName)) ∈ lw_all := lw_g (lw_at lw_m3 102 rfl) rfl
theorem q732 : (Jvm.Cond.selects "CoinJudge$Sink" ({ cls := "CoinJudge$Sink", name := "copy", desc := "([BII)V" } : Jvm.MethodName) ({ cls := "CoinJudge$Sink", name := "copy", desc := "([BII)V" } : Jvm.MethodName)) ∈ lw_all := lw_g (lw_at lw_m3 103 rfl) rfl
theorem q733 : (Jvm.Cond.code ({ cls := "CoinJudge$Sink", name := "copy", desc := "([BII)V" } : Jvm.MethodName) prog_22_method_5_code (5 : Nat) (Option.none : Option Jvm.ClassFile.FieldType)) ∈ lw_all := lw_g (lw_at lw_m3 104 rfl) rfl
theorem q734 : (Jvm.Cond.classLink "CoinJudge$Sink" (17 : Nat) "java/lang/IndexOutOfBoundsException") ∈ lw_all := lw_g (lw_at lw_m3 105 rfl) rfl
theorem q735 : (Jvm.Cond.instantiable "java/lang/IndexOutOfBoundsException" (6 : Nat)) ∈ lw_all := lw_g (lw_at lw_m3 106 rfl) rfl
theorem q736 : (Jvm.Cond.castable "java/lang/IndexOutOfBoundsException" "java/lang/IndexOutOfBoundsException") ∈ lw_tbl := lw_at lw_m3 107 rfl
theorem q737 : (Jvm.Cond.declares ({ cls := "java/lang/RuntimeException", name := "<init>", desc := "()V" } : Jvm.MethodName)) ∈ lw_tbl := lw_at lw_m3 108 rfl
theorem q738 : (Jvm.Cond.declares ({ cls := "java/lang/RuntimeException", name := "<init>", desc := "(Ljava/lang/String;)V" } : Jvm.MethodName)) ∈ lw_tbl := lw_at lw_m3 109 rfl
theorem q739 : (Jvm.Cond.declares ({ cls := "java/lang/Exception", name := "<init>", desc := "()V" } : Jvm.MethodName)) ∈ lw_tbl := lw_at lw_m3 110 rfl
theorem q740 : (Jvm.Cond.declares ({ cls := "java/lang/Exception", name := "<init>", desc := "(Ljava/lang/String;)V" } : Jvm.MethodName)) ∈ lw_tbl := lw_at lw_m3 111 rfl
theorem q741 : (Jvm.Cond.declares ({ cls := "java/lang/Throwable", name := "<init>", desc := "()V" } : Jvm.MethodName)) ∈ lw_tbl := lw_at lw_m3 112 rfl
theorem q742 : (Jvm.Cond.declares ({ cls := "java/lang/Throwable", name := "<init>", desc := "(Ljava/lang/String;)V" } : Jvm.MethodName)) ∈ lw_tbl := lw_at lw_m3 113 rfl
theorem q743 : (Jvm.Cond.selects "java/lang/IndexOutOfBoundsException" ({ cls := "java/lang/Throwable", name := "fillInStackTrace", desc := "(I)Ljava/lang/Throwable;" } : Jvm.MethodName) ({ cls := "java/lang/Throwable", name := "fillInStackTrace", desc := "(I)Ljava/lang/Throwable;" } : Jvm.MethodName)) ∈ lw_all := lw_g (lw_at lw_m3 114 rfl) rfl
theorem q744 : (Jvm.Cond.selects "java/lang/IndexOutOfBoundsException" ({ cls := "java/lang/Throwable", name := "fillInStackTrace", desc := "()Ljava/lang/Throwable;" } : Jvm.MethodName) ({ cls := "java/lang/Throwable", name := "fillInStackTrace", desc := "()Ljava/lang/Throwable;" } : Jvm.MethodName)) ∈ lw_all := lw_g (lw_at lw_m3 115 rfl) rfl
theorem q745 : (Jvm.Cond.lays "java/lang/IndexOutOfBoundsException" "java/lang/Throwable" "cause" "Ljava/lang/Throwable;") ∈ lw_all := lw_g (lw_at lw_m3 116 rfl) rfl
theorem q746 : (Jvm.Cond.lays "java/lang/Throwable" "java/lang/Throwable" "cause" "Ljava/lang/Throwable;") ∈ lw_all := lw_g (lw_at lw_m3 117 rfl) rfl
theorem q747 : (Jvm.Cond.lays "java/lang/IndexOutOfBoundsException" "java/lang/Throwable" "stackTrace" "[Ljava/lang/StackTraceElement;") ∈ lw_all := lw_g (lw_at lw_m3 118 rfl) rfl
theorem q748 : (Jvm.Cond.lays "java/lang/Throwable" "java/lang/Throwable" "stackTrace" "[Ljava/lang/StackTraceElement;") ∈ lw_all := lw_g (lw_at lw_m3 119 rfl) rfl
theorem q749 : (Jvm.Cond.lays "java/lang/IndexOutOfBoundsException" "java/lang/Throwable" "suppressedExceptions" "Ljava/util/List;") ∈ lw_all := lw_g (lw_at lw_m3 120 rfl) rfl
theorem q750 : (Jvm.Cond.lays "java/lang/Throwable" "java/lang/Throwable" "suppressedExceptions" "Ljava/util/List;") ∈ lw_all := lw_g (lw_at lw_m3 121 rfl) rfl
theorem q751 : (Jvm.Cond.lays "java/lang/IndexOutOfBoundsException" "java/lang/Throwable" "detailMessage" "Ljava/lang/String;") ∈ lw_all := lw_g (lw_at lw_m3 122 rfl) rfl
theorem q752 : (Jvm.Cond.lays "java/lang/Throwable" "java/lang/Throwable" "detailMessage" "Ljava/lang/String;") ∈ lw_all := lw_g (lw_at lw_m3 123 rfl) rfl
theorem q753 : (Jvm.Cond.lays "java/lang/IndexOutOfBoundsException" "java/lang/Throwable" "backtrace" "Ljava/lang/Object;") ∈ lw_all := lw_g (lw_at lw_m3 124 rfl) rfl
theorem q754 : (Jvm.Cond.lays "java/lang/Throwable" "java/lang/Throwable" "backtrace" "Ljava/lang/Object;") ∈ lw_all := lw_g (lw_at lw_m3 125 rfl) rfl
theorem q755 : (Jvm.Cond.fieldLink "java/lang/Throwable" (198 : Nat) "java/lang/Throwable" "backtrace" "Ljava/lang/Object;") ∈ lw_all := lw_g (lw_at lw_m3 126 rfl) rfl
theorem q756 : (Jvm.Cond.superclass "java/lang/Throwable" "java/lang/Object") ∈ lw_all := lw_g (lw_at lw_m3 127 rfl) rfl
theorem q757 : (Jvm.Cond.instanceMethod ({ cls := "java/lang/Throwable", name := "<init>", desc := "()V" } : Jvm.MethodName)) ∈ lw_all := lw_g (lw_at lw_m3 128 rfl) rfl
theorem q758 : (Jvm.Cond.code ({ cls := "java/lang/Throwable", name := "<init>", desc := "()V" } : Jvm.MethodName) prog_48_method_1_code (1 : Nat) (Option.none : Option Jvm.ClassFile.FieldType)) ∈ lw_all := lw_g (lw_at lw_m3 129 rfl) rfl
theorem q759 : (Jvm.Cond.methodLink "java/lang/Throwable" (1 : Nat) ({ cls := "java/lang/Object", name := "<init>", desc := "()V" } : Jvm.MethodName)) ∈ lw_all := lw_g (lw_at lw_m3 130 rfl) rfl
theorem q760 : (Jvm.Cond.fieldLink "java/lang/Throwable" (13 : Nat) "java/lang/Throwable" "UNASSIGNED_STACK" "[Ljava/lang/StackTraceElement;") ∈ lw_all := lw_g (lw_at lw_m3 131 rfl) rfl
theorem q761 : (Jvm.Cond.laysStatic "java/lang/Throwable" "UNASSIGNED_STACK" "[Ljava/lang/StackTraceElement;") ∈ lw_tbl := lw_at lw_m3 132 rfl
theorem q762 : (Jvm.Cond.fieldLink "java/lang/Throwable" (20 : Nat) "java/lang/Throwable" "SUPPRESSED_SENTINEL" "Ljava/util/List;") ∈ lw_all := lw_g (lw_at lw_m3 133 rfl) rfl
theorem q763 : (Jvm.Cond.laysStatic "java/lang/Throwable" "SUPPRESSED_SENTINEL" "Ljava/util/List;") ∈ lw_tbl := lw_at lw_m3 134 rfl
theorem q764 : (Jvm.Cond.methodLink "java/lang/Throwable" (27 : Nat) ({ cls := "java/lang/Throwable", name := "fillInStackTrace", desc := "()Ljava/lang/Throwable;" } : Jvm.MethodName)) ∈ lw_all := lw_g (lw_at lw_m3 135 rfl) rfl
theorem q765 : (Jvm.Cond.instanceMethod ({ cls := "java/lang/Throwable", name := "fillInStackTrace", desc := "()Ljava/lang/Throwable;" } : Jvm.MethodName)) ∈ lw_all := lw_g (lw_at lw_m3 136 rfl) rfl
theorem q766 : (Jvm.Cond.sameMethod "java/lang/Throwable" "java/lang/Throwable" "fillInStackTrace" "()Ljava/lang/Throwable;") ∈ lw_all := lw_g (lw_at lw_m3 137 rfl) rfl
theorem q767 : (Jvm.Cond.selects "CoinJudge$Broken" ({ cls := "java/lang/Throwable", name := "fillInStackTrace", desc := "()Ljava/lang/Throwable;" } : Jvm.MethodName) ({ cls := "java/lang/Throwable", name := "fillInStackTrace", desc := "()Ljava/lang/Throwable;" } : Jvm.MethodName)) ∈ lw_all := lw_g (lw_at lw_m3 138 rfl) rfl
theorem q768 : (Jvm.Cond.selects "CoinJudge$Refused" ({ cls := "java/lang/Throwable", name := "fillInStackTrace", desc := "()Ljava/lang/Throwable;" } : Jvm.MethodName) ({ cls := "java/lang/Throwable", name := "fillInStackTrace", desc := "()Ljava/lang/Throwable;" } : Jvm.MethodName)) ∈ lw_all := lw_g (lw_at lw_m3 139 rfl) rfl
theorem q769 : (Jvm.Cond.selects "java/lang/ArrayIndexOutOfBoundsException" ({ cls := "java/lang/Throwable", name := "fillInStackTrace", desc := "()Ljava/lang/Throwable;" } : Jvm.MethodName) ({ cls := "java/lang/Throwable", name := "fillInStackTrace", desc := "()Ljava/lang/Throwable;" } : Jvm.MethodName)) ∈ lw_all := lw_g (lw_at lw_m3 140 rfl) rfl
theorem q770 : (Jvm.Cond.selects "java/lang/IllegalArgumentException" ({ cls := "java/lang/Throwable", name := "fillInStackTrace", desc := "()Ljava/lang/Throwable;" } : Jvm.MethodName) ({ cls := "java/lang/Throwable", name := "fillInStackTrace", desc := "()Ljava/lang/Throwable;" } : Jvm.MethodName)) ∈ lw_all := lw_g (lw_at lw_m3 141 rfl) rfl
theorem q771 : (Jvm.Cond.selects "java/lang/IllegalStateException" ({ cls := "java/lang/Throwable", name := "fillInStackTrace", desc := "()Ljava/lang/Throwable;" } : Jvm.MethodName) ({ cls := "java/lang/Throwable", name := "fillInStackTrace", desc := "()Ljava/lang/Throwable;" } : Jvm.MethodName)) ∈ lw_all := lw_g (lw_at lw_m3 142 rfl) rfl
theorem q772 : (Jvm.Cond.selects "java/lang/UnsupportedOperationException" ({ cls := "java/lang/Throwable", name := "fillInStackTrace", desc := "()Ljava/lang/Throwable;" } : Jvm.MethodName) ({ cls := "java/lang/Throwable", name := "fillInStackTrace", desc := "()Ljava/lang/Throwable;" } : Jvm.MethodName)) ∈ lw_all := lw_g (lw_at lw_m3 143 rfl) rfl
theorem q773 : (Jvm.Cond.codeSync ({ cls := "java/lang/Throwable", name := "fillInStackTrace", desc := "()Ljava/lang/Throwable;" } : Jvm.MethodName) prog_48_method_18_code (1 : Nat) (Option.some (Jvm.ClassFile.FieldType.object "java/lang/Throwable"))) ∈ lw_all := lw_g (lw_at lw_m3 144 rfl) rfl
theorem q774 : (Jvm.Cond.methodLink "java/lang/Throwable" (202 : Nat) ({ cls := "java/lang/Throwable", name := "fillInStackTrace", desc := "(I)Ljava/lang/Throwable;" } : Jvm.MethodName)) ∈ lw_all := lw_g (lw_at lw_m3 145 rfl) rfl
theorem q775 : (Jvm.Cond.privateMethod ({ cls := "java/lang/Throwable", name := "fillInStackTrace", desc := "(I)Ljava/lang/Throwable;" } : Jvm.MethodName)) ∈ lw_tbl := lw_at lw_m3 146 rfl
theorem q776 : (Jvm.Cond.instanceMethod ({ cls := "java/lang/Throwable", name := "fillInStackTrace", desc := "(I)Ljava/lang/Throwable;" } : Jvm.MethodName)) ∈ lw_all := lw_g (lw_at lw_m3 147 rfl) rfl
theorem q777 : (Jvm.Cond.instantiable "java/lang/Throwable" (6 : Nat)) ∈ lw_all := lw_g (lw_at lw_m3 148 rfl) rfl
theorem q778 : (Jvm.Cond.native ({ cls := "java/lang/Throwable", name := "fillInStackTrace", desc := "(I)Ljava/lang/Throwable;" } : Jvm.MethodName)) ∈ lw_all := lw_g (lw_at lw_m3 149 rfl) rfl
theorem q779 : (Jvm.Cond.methodLink "CoinJudge$Sink" (19 : Nat) ({ cls := "java/lang/IndexOutOfBoundsException", name := "<init>", desc := "()V" } : Jvm.MethodName)) ∈ lw_all := lw_g (lw_at lw_m3 150 rfl) rfl
theorem q780 : (Jvm.Cond.instanceMethod ({ cls := "java/lang/IndexOutOfBoundsException", name := "<init>", desc := "()V" } : Jvm.MethodName)) ∈ lw_all := lw_g (lw_at lw_m3 151 rfl) rfl
theorem q781 : (Jvm.Cond.code ({ cls := "java/lang/IndexOutOfBoundsException", name := "<init>", desc := "()V" } : Jvm.MethodName) prog_39_method_1_code (1 : Nat) (Option.none : Option Jvm.ClassFile.FieldType)) ∈ lw_all := lw_g (lw_at lw_m3 152 rfl) rfl
theorem q782 : (Jvm.Cond.methodLink "java/lang/IndexOutOfBoundsException" (1 : Nat) ({ cls := "java/lang/RuntimeException", name := "<init>", desc := "()V" } : Jvm.MethodName)) ∈ lw_all := lw_g (lw_at lw_m3 153 rfl) rfl
theorem q783 : (Jvm.Cond.instanceMethod ({ cls := "java/lang/RuntimeException", name := "<init>", desc := "()V" } : Jvm.MethodName)) ∈ lw_all := lw_g (lw_at lw_m3 154 rfl) rfl
theorem q784 : (Jvm.Cond.code ({ cls := "java/lang/RuntimeException", name := "<init>", desc := "()V" } : Jvm.MethodName) prog_43_method_1_code (1 : Nat) (Option.none : Option Jvm.ClassFile.FieldType)) ∈ lw_all := lw_g (lw_at lw_m3 155 rfl) rfl
theorem q785 : (Jvm.Cond.methodLink "java/lang/RuntimeException" (1 : Nat) ({ cls := "java/lang/Exception", name := "<init>", desc := "()V" } : Jvm.MethodName)) ∈ lw_all := lw_g (lw_at lw_m3 156 rfl) rfl
theorem q786 : (Jvm.Cond.instanceMethod ({ cls := "java/lang/Exception", name := "<init>", desc := "()V" } : Jvm.MethodName)) ∈ lw_all := lw_g (lw_at lw_m3 157 rfl) rfl
theorem q787 : (Jvm.Cond.code ({ cls := "java/lang/Exception", name := "<init>", desc := "()V" } : Jvm.MethodName) prog_36_method_1_code (1 : Nat) (Option.none : Option Jvm.ClassFile.FieldType)) ∈ lw_all := lw_g (lw_at lw_m3 158 rfl) rfl
theorem q788 : (Jvm.Cond.methodLink "java/lang/Exception" (1 : Nat) ({ cls := "java/lang/Throwable", name := "<init>", desc := "()V" } : Jvm.MethodName)) ∈ lw_all := lw_g (lw_at lw_m3 159 rfl) rfl
theorem q789 : (Jvm.Cond.fieldLink "java/lang/Throwable" (198 : Nat) "java/lang/Throwable" "backtrace" "Ljava/lang/Object;") ∈ lw_all := lw_g (lw_at lw_m3 160 rfl) rfl
theorem q790 : (Jvm.Cond.fieldLink "java/lang/Throwable" (31 : Nat) "java/lang/Throwable" "detailMessage" "Ljava/lang/String;") ∈ lw_all := lw_g (lw_at lw_m3 161 rfl) rfl
theorem q791 : (Jvm.Cond.fieldLink "java/lang/Throwable" (7 : Nat) "java/lang/Throwable" "cause" "Ljava/lang/Throwable;") ∈ lw_all := lw_g (lw_at lw_m3 162 rfl) rfl
theorem q792 : (Jvm.Cond.fieldLink "java/lang/Throwable" (17 : Nat) "java/lang/Throwable" "stackTrace" "[Ljava/lang/StackTraceElement;") ∈ lw_all := lw_g (lw_at lw_m3 163 rfl) rfl
theorem q793 : (Jvm.Cond.fieldLink "java/lang/Throwable" (24 : Nat) "java/lang/Throwable" "suppressedExceptions" "Ljava/util/List;") ∈ lw_all := lw_g (lw_at lw_m3 164 rfl) rfl
theorem q794 : (Jvm.Cond.soleField "java/lang/Throwable" "backtrace") ∈ lw_all := lw_g (lw_at lw_m3 165 rfl) rfl
theorem q795 : (Jvm.Cond.soleField "java/lang/Throwable" "detailMessage") ∈ lw_all := lw_g (lw_at lw_m3 166 rfl) rfl
theorem q796 : (Jvm.Cond.soleField "java/lang/Throwable" "cause") ∈ lw_all := lw_g (lw_at lw_m3 167 rfl) rfl
theorem q797 : (Jvm.Cond.soleField "java/lang/Throwable" "stackTrace") ∈ lw_all := lw_g (lw_at lw_m3 168 rfl) rfl
theorem q798 : (Jvm.Cond.lays "java/lang/IndexOutOfBoundsException" "java/lang/Throwable" "depth" "I") ∈ lw_all := lw_g (lw_at lw_m3 169 rfl) rfl
theorem q799 : (Jvm.Cond.soleField "java/lang/Throwable" "depth") ∈ lw_all := lw_g (lw_at lw_m3 170 rfl) rfl
theorem q800 : (Jvm.Cond.soleField "java/lang/Throwable" "suppressedExceptions") ∈ lw_all := lw_g (lw_at lw_m3 171 rfl) rfl
theorem q801 : (Jvm.Cond.superclass "java/lang/IndexOutOfBoundsException" "java/lang/RuntimeException") ∈ lw_all := lw_g (lw_at lw_m3 172 rfl) rfl
theorem q802 : (Jvm.Cond.constantLong "CoinJudge" (113 : Nat) (5000000000 : Int64)) ∈ lw_all := lw_g (lw_at lw_m3 173 rfl) rfl
theorem q803 : (Jvm.Cond.methodLink "CoinJudge" (115 : Nat) ({ cls := "CoinJudge$Draft", name := "output", desc := "(J[BI)V" } : Jvm.MethodName)) ∈ lw_all := lw_g (lw_at lw_m3 174 rfl) rfl
theorem q804 : (Jvm.Cond.instanceMethod ({ cls := "CoinJudge$Draft", name := "output", desc := "(J[BI)V" } : Jvm.MethodName)) ∈ lw_all := lw_g (lw_at lw_m3 175 rfl) rfl
theorem q805 : (Jvm.Cond.selects "CoinJudge$Draft" ({ cls := "CoinJudge$Draft", name := "output", desc := "(J[BI)V" } : Jvm.MethodName) ({ cls := "CoinJudge$Draft", name := "output", desc := "(J[BI)V" } : Jvm.MethodName)) ∈ lw_all := lw_g (lw_at lw_m3 176 rfl) rfl
theorem q806 : (Jvm.Cond.code ({ cls := "CoinJudge$Draft", name := "output", desc := "(J[BI)V" } : Jvm.MethodName) prog_9_method_6_code (7 : Nat) (Option.none : Option Jvm.ClassFile.FieldType)) ∈ lw_all := lw_g (lw_at lw_m3 177 rfl) rfl
theorem q807 : (Jvm.Cond.classLink "CoinJudge$Draft" (86 : Nat) "CoinJudge$DraftOutput") ∈ lw_all := lw_g (lw_at lw_m3 178 rfl) rfl
theorem q808 : (Jvm.Cond.instantiable "CoinJudge$DraftOutput" (2 : Nat)) ∈ lw_all := lw_g (lw_at lw_m3 179 rfl) rfl
theorem q809 : (Jvm.Cond.methodLinkNest "CoinJudge$Draft" (88 : Nat) ({ cls := "CoinJudge$DraftOutput", name := "<init>", desc := "()V" } : Jvm.MethodName) "CoinJudge") ∈ lw_tbl := lw_at lw_m3 180 rfl
theorem q810 : (Jvm.Cond.instanceMethod ({ cls := "CoinJudge$DraftOutput", name := "<init>", desc := "()V" } : Jvm.MethodName)) ∈ lw_all := lw_g (lw_at lw_m3 181 rfl) rfl
theorem q811 : (Jvm.Cond.code ({ cls := "CoinJudge$DraftOutput", name := "<init>", desc := "()V" } : Jvm.MethodName) prog_11_method_1_code (1 : Nat) (Option.none : Option Jvm.ClassFile.FieldType)) ∈ lw_all := lw_g (lw_at lw_m3 182 rfl) rfl
theorem q812 : (Jvm.Cond.methodLink "CoinJudge$DraftOutput" (1 : Nat) ({ cls := "java/lang/Object", name := "<init>", desc := "()V" } : Jvm.MethodName)) ∈ lw_all := lw_g (lw_at lw_m3 183 rfl) rfl
theorem q813 : (Jvm.Cond.classLink "CoinJudge$DraftOutput" (7 : Nat) "CoinJudge$Sink") ∈ lw_all := lw_g (lw_at lw_m3 184 rfl) rfl
theorem q814 : (Jvm.Cond.methodLink "CoinJudge$DraftOutput" (9 : Nat) ({ cls := "CoinJudge$Sink", name := "<init>", desc := "(I)V" } : Jvm.MethodName)) ∈ lw_all := lw_g (lw_at lw_m3 185 rfl) rfl
theorem q815 : (Jvm.Cond.fieldLinkNest "CoinJudge$DraftTx" (66 : Nat) "CoinJudge$DraftOutput" "value" "J" "CoinJudge") ∈ lw_tbl := lw_at lw_m3 186 rfl
theorem q816 : (Jvm.Cond.fieldLinkNest "CoinJudge$Draft" (89 : Nat) "CoinJudge$DraftOutput" "value" "J" "CoinJudge") ∈ lw_tbl := lw_at lw_m3 187 rfl
theorem q817 : (Jvm.Cond.fieldLink "CoinJudge$DraftOutput" (12 : Nat) "CoinJudge$DraftOutput" "script" "LCoinJudge$Sink;") ∈ lw_all := lw_g (lw_at lw_m3 188 rfl) rfl
theorem q818 : (Jvm.Cond.fieldLinkNest "CoinJudge$DraftTx" (69 : Nat) "CoinJudge$DraftOutput" "script" "LCoinJudge$Sink;" "CoinJudge") ∈ lw_tbl := lw_at lw_m3 189 rfl
theorem q819 : (Jvm.Cond.fieldLinkNest "CoinJudge$Draft" (92 : Nat) "CoinJudge$DraftOutput" "script" "LCoinJudge$Sink;" "CoinJudge") ∈ lw_tbl := lw_at lw_m3 190 rfl
theorem q820 : (Jvm.Cond.lays "CoinJudge$DraftOutput" "CoinJudge$DraftOutput" "value" "J") ∈ lw_all := lw_g (lw_at lw_m3 191 rfl) rfl
theorem q821 : (Jvm.Cond.soleField "CoinJudge$DraftOutput" "value") ∈ lw_all := lw_g (lw_at lw_m3 192 rfl) rfl
theorem q822 : (Jvm.Cond.laysFinal "CoinJudge$DraftOutput" "CoinJudge$DraftOutput" "script" "LCoinJudge$Sink;") ∈ lw_all := lw_g (lw_at lw_m3 193 rfl) rfl
theorem q823 : (Jvm.Cond.soleField "CoinJudge$DraftOutput" "script") ∈ lw_all := lw_g (lw_at lw_m3 194 rfl) rfl
theorem q824 : (Jvm.Cond.superclass "CoinJudge$DraftOutput" "java/lang/Object") ∈ lw_all := lw_g (lw_at lw_m3 195 rfl) rfl
theorem q825 : (Jvm.Cond.methodLink "CoinJudge" (119 : Nat) ({ cls := "CoinJudge", name := "write", desc := "(LCoinJudge$Draft;I)I" } : Jvm.MethodName)) ∈ lw_all := lw_g (lw_at lw_m3 196 rfl) rfl
theorem q826 : (Jvm.Cond.privateMethod ({ cls := "CoinJudge", name := "write", desc := "(LCoinJudge$Draft;I)I" } : Jvm.MethodName)) ∈ lw_tbl := lw_at lw_m3 197 rfl
theorem q827 : (Jvm.Cond.instanceMethod ({ cls := "CoinJudge", name := "write", desc := "(LCoinJudge$Draft;I)I" } : Jvm.MethodName)) ∈ lw_all := lw_g (lw_at lw_m3 198 rfl) rfl
theorem q828 : (Jvm.Cond.code ({ cls := "CoinJudge", name := "write", desc := "(LCoinJudge$Draft;I)I" } : Jvm.MethodName) prog_1_method_28_code (7 : Nat) (Option.some Jvm.ClassFile.FieldType.int)) ∈ lw_all := lw_g (lw_at lw_m3 199 rfl) rfl
theorem q829 : (Jvm.Cond.methodLink "CoinJudge" (509 : Nat) ({ cls := "CoinJudge$Sink", name := "clear", desc := "()V" } : Jvm.MethodName)) ∈ lw_all := lw_g (lw_at lw_m3 200 rfl) rfl
theorem q830 : (Jvm.Cond.constant "CoinJudge" (219 : Nat) (545259519 : Int32)) ∈ lw_all := lw_g (lw_at lw_m3 201 rfl) rfl
theorem q831 : (Jvm.Cond.methodLink "CoinJudge" (411 : Nat) ({ cls := "CoinJudge", name := "due", desc := "(LCoinJudge$Block;)I" } : Jvm.MethodName)) ∈ lw_all := lw_g (lw_at lw_m3 202 rfl) rfl
theorem q832 : (Jvm.Cond.static ({ cls := "CoinJudge", name := "due", desc := "(LCoinJudge$Block;)I" } : Jvm.MethodName)) ∈ lw_all := lw_g (lw_at lw_m3 203 rfl) rfl
theorem q833 : (Jvm.Cond.code ({ cls := "CoinJudge", name := "due", desc := "(LCoinJudge$Block;)I" } : Jvm.MethodName) prog_1_method_6_code (15 : Nat) (Option.some Jvm.ClassFile.FieldType.int)) ∈ lw_all := lw_g (lw_at lw_m3 204 rfl) rfl
theorem q834 : (Jvm.Cond.methodLink "CoinJudge" (202 : Nat) ({ cls := "CoinJudge", name := "ancestor", desc := "(LCoinJudge$Block;I)LCoinJudge$Block;" } : Jvm.MethodName)) ∈ lw_all := lw_g (lw_at lw_m3 205 rfl) rfl
theorem q835 : (Jvm.Cond.static ({ cls := "CoinJudge", name := "ancestor", desc := "(LCoinJudge$Block;I)LCoinJudge$Block;" } : Jvm.MethodName)) ∈ lw_all := lw_g (lw_at lw_m3 206 rfl) rfl
theorem q836 : (Jvm.Cond.code ({ cls := "CoinJudge", name := "ancestor", desc := "(LCoinJudge$Block;I)LCoinJudge$Block;" } : Jvm.MethodName) prog_1_method_5_code (3 : Nat) (Option.some (Jvm.ClassFile.FieldType.object "CoinJudge$Block"))) ∈ lw_all := lw_g (lw_at lw_m3 207 rfl) rfl
theorem q837 : (Jvm.Cond.constantLong "CoinJudge" (206 : Nat) (4800 : Int64)) ∈ lw_all := lw_g (lw_at lw_m3 208 rfl) rfl
theorem q838 : (Jvm.Cond.constantLong "CoinJudge" (208 : Nat) (4 : Int64)) ∈ lw_all := lw_g (lw_at lw_m3 209 rfl) rfl
theorem q839 : (Jvm.Cond.methodLink "CoinJudge" (210 : Nat) ({ cls := "java/lang/Math", name := "min", desc := "(JJ)J" } : Jvm.MethodName)) ∈ lw_all := lw_g (lw_at lw_m3 210 rfl) rfl
theorem q840 : (Jvm.Cond.static ({ cls := "java/lang/Math", name := "min", desc := "(JJ)J" } : Jvm.MethodName)) ∈ lw_all := lw_g (lw_at lw_m3 211 rfl) rfl
theorem q841 : (Jvm.Cond.code ({ cls := "java/lang/Math", name := "min", desc := "(JJ)J" } : Jvm.MethodName) prog_42_method_70_code (4 : Nat) (Option.some Jvm.ClassFile.FieldType.long)) ∈ lw_all := lw_g (lw_at lw_m3 212 rfl) rfl
theorem q842 : (Jvm.Cond.methodLink "CoinJudge" (216 : Nat) ({ cls := "java/lang/Math", name := "max", desc := "(JJ)J" } : Jvm.MethodName)) ∈ lw_all := lw_g (lw_at lw_m3 213 rfl) rfl
theorem q843 : (Jvm.Cond.static ({ cls := "java/lang/Math", name := "max", desc := "(JJ)J" } : Jvm.MethodName)) ∈ lw_all := lw_g (lw_at lw_m3 214 rfl) rfl
theorem q844 : (Jvm.Cond.code ({ cls := "java/lang/Math", name := "max", desc := "(JJ)J" } : Jvm.MethodName) prog_42_method_66_code (4 : Nat) (Option.some Jvm.ClassFile.FieldType.long)) ∈ lw_all := lw_g (lw_at lw_m3 215 rfl) rfl
theorem q845 : (Jvm.Cond.methodLink "CoinJudge" (185 : Nat) ({ cls := "CoinJudge", name := "targetOf", desc := "(ILCoinJudge$Big;)LCoinJudge$Big;" } : Jvm.MethodName)) ∈ lw_all := lw_g (lw_at lw_m3 216 rfl) rfl
theorem q846 : (Jvm.Cond.static ({ cls := "CoinJudge", name := "targetOf", desc := "(ILCoinJudge$Big;)LCoinJudge$Big;" } : Jvm.MethodName)) ∈ lw_all := lw_g (lw_at lw_m3 217 rfl) rfl
theorem q847 : (Jvm.Cond.code ({ cls := "CoinJudge", name := "targetOf", desc := "(ILCoinJudge$Big;)LCoinJudge$Big;" } : Jvm.MethodName) prog_1_method_2_code (8 : Nat) (Option.some (Jvm.ClassFile.FieldType.object "CoinJudge$Big"))) ∈ lw_all := lw_g (lw_at lw_m3 218 rfl) rfl
theorem q848 : (Jvm.Cond.constant "CoinJudge" (171 : Nat) (8388607 : Int32)) ∈ lw_all := lw_g (lw_at lw_m3 219 rfl) rfl
theorem q849 : (Jvm.Cond.methodLink "CoinJudge" (172 : Nat) ({ cls := "CoinJudge$Big", name := "zero", desc := "()LCoinJudge$Big;" } : Jvm.MethodName)) ∈ lw_all := lw_g (lw_at lw_m3 220 rfl) rfl
theorem q850 : (Jvm.Cond.constant "CoinJudge" (176 : Nat) (8388608 : Int32)) ∈ lw_all := lw_g (lw_at lw_m3 221 rfl) rfl
theorem q851 : (Jvm.Cond.methodLink "CoinJudge" (220 : Nat) ({ cls := "CoinJudge$Big", name := "compare", desc := "(LCoinJudge$Big;)I" } : Jvm.MethodName)) ∈ lw_all := lw_g (lw_at lw_m3 222 rfl) rfl
theorem q852 : (Jvm.Cond.instanceMethod ({ cls := "CoinJudge$Big", name := "compare", desc := "(LCoinJudge$Big;)I" } : Jvm.MethodName)) ∈ lw_all := lw_g (lw_at lw_m3 223 rfl) rfl
theorem q853 : (Jvm.Cond.selects "CoinJudge$Big" ({ cls := "CoinJudge$Big", name := "compare", desc := "(LCoinJudge$Big;)I" } : Jvm.MethodName) ({ cls := "CoinJudge$Big", name := "compare", desc := "(LCoinJudge$Big;)I" } : Jvm.MethodName)) ∈ lw_all := lw_g (lw_at lw_m3 224 rfl) rfl
theorem q854 : (Jvm.Cond.code ({ cls := "CoinJudge$Big", name := "compare", desc := "(LCoinJudge$Big;)I" } : Jvm.MethodName) prog_2_method_6_code (3 : Nat) (Option.some Jvm.ClassFile.FieldType.int)) ∈ lw_all := lw_g (lw_at lw_m3 225 rfl) rfl
theorem q855 : (Jvm.Cond.methodLink "CoinJudge" (224 : Nat) ({ cls := "CoinJudge", name := "bitsOf", desc := "(LCoinJudge$Big;)I" } : Jvm.MethodName)) ∈ lw_all := lw_g (lw_at lw_m3 226 rfl) rfl
theorem q856 : (Jvm.Cond.static ({ cls := "CoinJudge", name := "bitsOf", desc := "(LCoinJudge$Big;)I" } : Jvm.MethodName)) ∈ lw_all := lw_g (lw_at lw_m3 227 rfl) rfl
theorem q857 : (Jvm.Cond.code ({ cls := "CoinJudge", name := "bitsOf", desc := "(LCoinJudge$Big;)I" } : Jvm.MethodName) prog_1_method_3_code (5 : Nat) (Option.some Jvm.ClassFile.FieldType.int)) ∈ lw_all := lw_g (lw_at lw_m3 228 rfl) rfl
theorem q858 : (Jvm.Cond.methodLink "CoinJudge" (181 : Nat) ({ cls := "CoinJudge$Big", name := "length", desc := "()I" } : Jvm.MethodName)) ∈ lw_all := lw_g (lw_at lw_m3 229 rfl) rfl
theorem q859 : (Jvm.Cond.instanceMethod ({ cls := "CoinJudge$Big", name := "length", desc := "()I" } : Jvm.MethodName)) ∈ lw_all := lw_g (lw_at lw_m3 230 rfl) rfl
theorem q860 : (Jvm.Cond.selects "CoinJudge$Big" ({ cls := "CoinJudge$Big", name := "length", desc := "()I" } : Jvm.MethodName) ({ cls := "CoinJudge$Big", name := "length", desc := "()I" } : Jvm.MethodName)) ∈ lw_all := lw_g (lw_at lw_m3 231 rfl) rfl
theorem q861 : (Jvm.Cond.code ({ cls := "CoinJudge$Big", name := "length", desc := "()I" } : Jvm.MethodName) prog_2_method_11_code (2 : Nat) (Option.some Jvm.ClassFile.FieldType.int)) ∈ lw_all := lw_g (lw_at lw_m3 232 rfl) rfl
theorem q862 : (Jvm.Cond.methodLink "CoinJudge$Big" (21 : Nat) ({ cls := "java/lang/Integer", name := "numberOfLeadingZeros", desc := "(I)I" } : Jvm.MethodName)) ∈ lw_all := lw_g (lw_at lw_m3 233 rfl) rfl
theorem q863 : (Jvm.Cond.static ({ cls := "java/lang/Integer", name := "numberOfLeadingZeros", desc := "(I)I" } : Jvm.MethodName)) ∈ lw_all := lw_g (lw_at lw_m3 234 rfl) rfl
theorem q864 : (Jvm.Cond.code ({ cls := "java/lang/Integer", name := "numberOfLeadingZeros", desc := "(I)I" } : Jvm.MethodName) prog_40_method_47_code (2 : Nat) (Option.some Jvm.ClassFile.FieldType.int)) ∈ lw_all := lw_g (lw_at lw_m3 235 rfl) rfl
theorem q865 : (Jvm.Cond.constant "java/lang/Integer" (264 : Nat) (65536 : Int32)) ∈ lw_all := lw_g (lw_at lw_m3 236 rfl) rfl
theorem q866 : (Jvm.Cond.constantLong "CoinJudge" (511 : Nat) (2 : Int64)) ∈ lw_all := lw_g (lw_at lw_m3 237 rfl) rfl
theorem q867 : (Jvm.Cond.methodLink "CoinJudge" (513 : Nat) ({ cls := "CoinJudge$Sink", name := "put", desc := "(JI)V" } : Jvm.MethodName)) ∈ lw_all := lw_g (lw_at lw_m3 238 rfl) rfl
theorem q868 : (Jvm.Cond.instanceMethod ({ cls := "CoinJudge$Sink", name := "put", desc := "(JI)V" } : Jvm.MethodName)) ∈ lw_all := lw_g (lw_at lw_m3 239 rfl) rfl
theorem q869 : (Jvm.Cond.selects "CoinJudge$Sink" ({ cls := "CoinJudge$Sink", name := "put", desc := "(JI)V" } : Jvm.MethodName) ({ cls := "CoinJudge$Sink", name := "put", desc := "(JI)V" } : Jvm.MethodName)) ∈ lw_all := lw_g (lw_at lw_m4 0 rfl) rfl
theorem q870 : (Jvm.Cond.code ({ cls := "CoinJudge$Sink", name := "put", desc := "(JI)V" } : Jvm.MethodName) prog_22_method_3_code (5 : Nat) (Option.none : Option Jvm.ClassFile.FieldType)) ∈ lw_all := lw_g (lw_at lw_m4 1 rfl) rfl
theorem q871 : (Jvm.Cond.methodLink "CoinJudge" (516 : Nat) ({ cls := "CoinJudge$Sink", name := "copy", desc := "([BII)V" } : Jvm.MethodName)) ∈ lw_all := lw_g (lw_at lw_m4 2 rfl) rfl
theorem q872 : (Jvm.Cond.methodLink "CoinJudge" (520 : Nat) ({ cls := "CoinJudge$Sink", name := "count", desc := "(I)V" } : Jvm.MethodName)) ∈ lw_all := lw_g (lw_at lw_m4 3 rfl) rfl
theorem q873 : (Jvm.Cond.instanceMethod ({ cls := "CoinJudge$Sink", name := "count", desc := "(I)V" } : Jvm.MethodName)) ∈ lw_all := lw_g (lw_at lw_m4 4 rfl) rfl
theorem q874 : (Jvm.Cond.selects "CoinJudge$Sink" ({ cls := "CoinJudge$Sink", name := "count", desc := "(I)V" } : Jvm.MethodName) ({ cls := "CoinJudge$Sink", name := "count", desc := "(I)V" } : Jvm.MethodName)) ∈ lw_all := lw_g (lw_at lw_m4 5 rfl) rfl
theorem q875 : (Jvm.Cond.code ({ cls := "CoinJudge$Sink", name := "count", desc := "(I)V" } : Jvm.MethodName) prog_22_method_4_code (2 : Nat) (Option.none : Option Jvm.ClassFile.FieldType)) ∈ lw_all := lw_g (lw_at lw_m4 6 rfl) rfl
theorem q876 : (Jvm.Cond.methodLink "CoinJudge$Sink" (20 : Nat) ({ cls := "CoinJudge$Sink", name := "put", desc := "(JI)V" } : Jvm.MethodName)) ∈ lw_all := lw_g (lw_at lw_m4 7 rfl) rfl
theorem q877 : (Jvm.Cond.constantLong "CoinJudge$Sink" (24 : Nat) (253 : Int64)) ∈ lw_all := lw_g (lw_at lw_m4 8 rfl) rfl
theorem q878 : (Jvm.Cond.methodLink "CoinJudge" (526 : Nat) ({ cls := "CoinJudge$DraftTx", name := "write", desc := "(LCoinJudge$Sink;)V" } : Jvm.MethodName)) ∈ lw_all := lw_g (lw_at lw_m4 9 rfl) rfl
theorem q879 : (Jvm.Cond.instanceMethod ({ cls := "CoinJudge$DraftTx", name := "write", desc := "(LCoinJudge$Sink;)V" } : Jvm.MethodName)) ∈ lw_all := lw_g (lw_at lw_m4 10 rfl) rfl
theorem q880 : (Jvm.Cond.selects "CoinJudge$DraftTx" ({ cls := "CoinJudge$DraftTx", name := "write", desc := "(LCoinJudge$Sink;)V" } : Jvm.MethodName) ({ cls := "CoinJudge$DraftTx", name := "write", desc := "(LCoinJudge$Sink;)V" } : Jvm.MethodName)) ∈ lw_all := lw_g (lw_at lw_m4 11 rfl) rfl
theorem q881 : (Jvm.Cond.code ({ cls := "CoinJudge$DraftTx", name := "write", desc := "(LCoinJudge$Sink;)V" } : Jvm.MethodName) prog_12_method_2_code (4 : Nat) (Option.none : Option Jvm.ClassFile.FieldType)) ∈ lw_all := lw_g (lw_at lw_m4 12 rfl) rfl
theorem q882 : (Jvm.Cond.methodLink "CoinJudge$DraftTx" (25 : Nat) ({ cls := "CoinJudge$Sink", name := "put", desc := "(JI)V" } : Jvm.MethodName)) ∈ lw_all := lw_g (lw_at lw_m4 13 rfl) rfl
theorem q883 : (Jvm.Cond.methodLink "CoinJudge$DraftTx" (35 : Nat) ({ cls := "CoinJudge$Sink", name := "count", desc := "(I)V" } : Jvm.MethodName)) ∈ lw_all := lw_g (lw_at lw_m4 14 rfl) rfl
theorem q884 : (Jvm.Cond.methodLink "CoinJudge$DraftTx" (43 : Nat) ({ cls := "CoinJudge$Sink", name := "copy", desc := "([BII)V" } : Jvm.MethodName)) ∈ lw_all := lw_g (lw_at lw_m4 15 rfl) rfl
theorem q885 : (Jvm.Cond.methodLink "CoinJudge" (330 : Nat) ({ cls := "CoinJudge$Digests", name := "twice", desc := "([BII[BI)V" } : Jvm.MethodName)) ∈ lw_all := lw_g (lw_at lw_m4 16 rfl) rfl
theorem q886 : (Jvm.Cond.instanceMethod ({ cls := "CoinJudge$Digests", name := "twice", desc := "([BII[BI)V" } : Jvm.MethodName)) ∈ lw_all := lw_g (lw_at lw_m4 17 rfl) rfl
theorem q887 : (Jvm.Cond.selects "CoinJudge$Digests" ({ cls := "CoinJudge$Digests", name := "twice", desc := "([BII[BI)V" } : Jvm.MethodName) ({ cls := "CoinJudge$Digests", name := "twice", desc := "([BII[BI)V" } : Jvm.MethodName)) ∈ lw_all := lw_g (lw_at lw_m4 18 rfl) rfl
theorem q888 : (Jvm.Cond.code ({ cls := "CoinJudge$Digests", name := "twice", desc := "([BII[BI)V" } : Jvm.MethodName) prog_8_method_12_code (6 : Nat) (Option.none : Option Jvm.ClassFile.FieldType)) ∈ lw_all := lw_g (lw_at lw_m4 19 rfl) rfl
theorem q889 : (Jvm.Cond.methodLink "CoinJudge$Digests" (119 : Nat) ({ cls := "CoinJudge$Digests", name := "sha", desc := "([BII[BI)V" } : Jvm.MethodName)) ∈ lw_all := lw_g (lw_at lw_m4 20 rfl) rfl
theorem q890 : (Jvm.Cond.instanceMethod ({ cls := "CoinJudge$Digests", name := "sha", desc := "([BII[BI)V" } : Jvm.MethodName)) ∈ lw_all := lw_g (lw_at lw_m4 21 rfl) rfl
theorem q891 : (Jvm.Cond.selects "CoinJudge$Digests" ({ cls := "CoinJudge$Digests", name := "sha", desc := "([BII[BI)V" } : Jvm.MethodName) ({ cls := "CoinJudge$Digests", name := "sha", desc := "([BII[BI)V" } : Jvm.MethodName)) ∈ lw_all := lw_g (lw_at lw_m4 22 rfl) rfl
theorem q892 : (Jvm.Cond.code ({ cls := "CoinJudge$Digests", name := "sha", desc := "([BII[BI)V" } : Jvm.MethodName) prog_8_method_11_code (7 : Nat) (Option.none : Option Jvm.ClassFile.FieldType)) ∈ lw_all := lw_g (lw_at lw_m4 23 rfl) rfl
theorem q893 : (Jvm.Cond.methodLink "CoinJudge$Digests" (112 : Nat) ({ cls := "CoinJudge$Digests", name := "first", desc := "()V" } : Jvm.MethodName)) ∈ lw_all := lw_g (lw_at lw_m4 24 rfl) rfl
theorem q894 : (Jvm.Cond.privateMethod ({ cls := "CoinJudge$Digests", name := "first", desc := "()V" } : Jvm.MethodName)) ∈ lw_tbl := lw_at lw_m4 25 rfl
theorem q895 : (Jvm.Cond.instanceMethod ({ cls := "CoinJudge$Digests", name := "first", desc := "()V" } : Jvm.MethodName)) ∈ lw_all := lw_g (lw_at lw_m4 26 rfl) rfl
theorem q896 : (Jvm.Cond.code ({ cls := "CoinJudge$Digests", name := "first", desc := "()V" } : Jvm.MethodName) prog_8_method_5_code (2 : Nat) (Option.none : Option Jvm.ClassFile.FieldType)) ∈ lw_all := lw_g (lw_at lw_m4 27 rfl) rfl
theorem q897 : (Jvm.Cond.methodLink "CoinJudge$Digests" (115 : Nat) ({ cls := "CoinJudge$Digests", name := "blocks", desc := "([BIIZ)V" } : Jvm.MethodName)) ∈ lw_all := lw_g (lw_at lw_m4 28 rfl) rfl
theorem q898 : (Jvm.Cond.privateMethod ({ cls := "CoinJudge$Digests", name := "blocks", desc := "([BIIZ)V" } : Jvm.MethodName)) ∈ lw_tbl := lw_at lw_m4 29 rfl
theorem q899 : (Jvm.Cond.instanceMethod ({ cls := "CoinJudge$Digests", name := "blocks", desc := "([BIIZ)V" } : Jvm.MethodName)) ∈ lw_all := lw_g (lw_at lw_m4 30 rfl) rfl
theorem q900 : (Jvm.Cond.code ({ cls := "CoinJudge$Digests", name := "blocks", desc := "([BIIZ)V" } : Jvm.MethodName) prog_8_method_10_code (8 : Nat) (Option.none : Option Jvm.ClassFile.FieldType)) ∈ lw_all := lw_g (lw_at lw_m4 31 rfl) rfl
theorem q901 : (Jvm.Cond.methodLink "CoinJudge$Digests" (100 : Nat) ({ cls := "java/lang/System", name := "arraycopy", desc := "(Ljava/lang/Object;ILjava/lang/Object;II)V" } : Jvm.MethodName)) ∈ lw_all := lw_g (lw_at lw_m4 32 rfl) rfl
theorem q902 : (Jvm.Cond.static ({ cls := "java/lang/System", name := "arraycopy", desc := "(Ljava/lang/Object;ILjava/lang/Object;II)V" } : Jvm.MethodName)) ∈ lw_all := lw_g (lw_at lw_m4 33 rfl) rfl
theorem q903 : (Jvm.Cond.native ({ cls := "java/lang/System", name := "arraycopy", desc := "(Ljava/lang/Object;ILjava/lang/Object;II)V" } : Jvm.MethodName)) ∈ lw_all := lw_g (lw_at lw_m4 34 rfl) rfl
theorem q904 : (Jvm.Cond.methodLink "CoinJudge$Digests" (106 : Nat) ({ cls := "CoinJudge$Digests", name := "mixRipe", desc := "()V" } : Jvm.MethodName)) ∈ lw_all := lw_g (lw_at lw_m4 35 rfl) rfl
theorem q905 : (Jvm.Cond.privateMethod ({ cls := "CoinJudge$Digests", name := "mixRipe", desc := "()V" } : Jvm.MethodName)) ∈ lw_tbl := lw_at lw_m4 36 rfl
theorem q906 : (Jvm.Cond.instanceMethod ({ cls := "CoinJudge$Digests", name := "mixRipe", desc := "()V" } : Jvm.MethodName)) ∈ lw_all := lw_g (lw_at lw_m4 37 rfl) rfl
theorem q907 : (Jvm.Cond.code ({ cls := "CoinJudge$Digests", name := "mixRipe", desc := "()V" } : Jvm.MethodName) prog_8_method_8_code (4 : Nat) (Option.none : Option Jvm.ClassFile.FieldType)) ∈ lw_all := lw_g (lw_at lw_m4 38 rfl) rfl
theorem q908 : (Jvm.Cond.methodLink "CoinJudge$Digests" (89 : Nat) ({ cls := "CoinJudge$Digests", name := "turned", desc := "(IIII)I" } : Jvm.MethodName)) ∈ lw_all := lw_g (lw_at lw_m4 39 rfl) rfl
theorem q909 : (Jvm.Cond.static ({ cls := "CoinJudge$Digests", name := "turned", desc := "(IIII)I" } : Jvm.MethodName)) ∈ lw_all := lw_g (lw_at lw_m4 40 rfl) rfl
theorem q910 : (Jvm.Cond.code ({ cls := "CoinJudge$Digests", name := "turned", desc := "(IIII)I" } : Jvm.MethodName) prog_8_method_7_code (4 : Nat) (Option.some Jvm.ClassFile.FieldType.int)) ∈ lw_all := lw_g (lw_at lw_m4 41 rfl) rfl
theorem q911 : (Jvm.Cond.methodLink "CoinJudge$Digests" (93 : Nat) ({ cls := "CoinJudge$Digests", name := "step", desc := "([III)V" } : Jvm.MethodName)) ∈ lw_all := lw_g (lw_at lw_m4 42 rfl) rfl
theorem q912 : (Jvm.Cond.static ({ cls := "CoinJudge$Digests", name := "step", desc := "([III)V" } : Jvm.MethodName)) ∈ lw_all := lw_g (lw_at lw_m4 43 rfl) rfl
theorem q913 : (Jvm.Cond.code ({ cls := "CoinJudge$Digests", name := "step", desc := "([III)V" } : Jvm.MethodName) prog_8_method_9_code (4 : Nat) (Option.none : Option Jvm.ClassFile.FieldType)) ∈ lw_all := lw_g (lw_at lw_m4 44 rfl) rfl
theorem q914 : (Jvm.Cond.methodLink "CoinJudge$Digests" (97 : Nat) ({ cls := "java/lang/Integer", name := "rotateLeft", desc := "(II)I" } : Jvm.MethodName)) ∈ lw_all := lw_g (lw_at lw_m4 45 rfl) rfl
theorem q915 : (Jvm.Cond.static ({ cls := "java/lang/Integer", name := "rotateLeft", desc := "(II)I" } : Jvm.MethodName)) ∈ lw_all := lw_g (lw_at lw_m4 46 rfl) rfl
theorem q916 : (Jvm.Cond.code ({ cls := "java/lang/Integer", name := "rotateLeft", desc := "(II)I" } : Jvm.MethodName) prog_40_method_50_code (2 : Nat) (Option.some Jvm.ClassFile.FieldType.int)) ∈ lw_all := lw_g (lw_at lw_m4 47 rfl) rfl
theorem q917 : (Jvm.Cond.methodLink "CoinJudge$Digests" (109 : Nat) ({ cls := "CoinJudge$Digests", name := "mix", desc := "()V" } : Jvm.MethodName)) ∈ lw_all := lw_g (lw_at lw_m4 48 rfl) rfl
theorem q918 : (Jvm.Cond.privateMethod ({ cls := "CoinJudge$Digests", name := "mix", desc := "()V" } : Jvm.MethodName)) ∈ lw_tbl := lw_at lw_m4 49 rfl
theorem q919 : (Jvm.Cond.instanceMethod ({ cls := "CoinJudge$Digests", name := "mix", desc := "()V" } : Jvm.MethodName)) ∈ lw_all := lw_g (lw_at lw_m4 50 rfl) rfl
theorem q920 : (Jvm.Cond.code ({ cls := "CoinJudge$Digests", name := "mix", desc := "()V" } : Jvm.MethodName) prog_8_method_6_code (12 : Nat) (Option.none : Option Jvm.ClassFile.FieldType)) ∈ lw_all := lw_g (lw_at lw_m4 51 rfl) rfl
theorem q921 : (Jvm.Cond.methodLink "CoinJudge$Digests" (84 : Nat) ({ cls := "java/lang/Integer", name := "rotateRight", desc := "(II)I" } : Jvm.MethodName)) ∈ lw_all := lw_g (lw_at lw_m4 52 rfl) rfl
theorem q922 : (Jvm.Cond.static ({ cls := "java/lang/Integer", name := "rotateRight", desc := "(II)I" } : Jvm.MethodName)) ∈ lw_all := lw_g (lw_at lw_m4 53 rfl) rfl
theorem q923 : (Jvm.Cond.code ({ cls := "java/lang/Integer", name := "rotateRight", desc := "(II)I" } : Jvm.MethodName) prog_40_method_51_code (2 : Nat) (Option.some Jvm.ClassFile.FieldType.int)) ∈ lw_all := lw_g (lw_at lw_m4 54 rfl) rfl
theorem q924 : (Jvm.Cond.methodLink "CoinJudge" (365 : Nat) ({ cls := "CoinJudge", name := "root", desc := "(I[B)V" } : Jvm.MethodName)) ∈ lw_all := lw_g (lw_at lw_m4 55 rfl) rfl
theorem q925 : (Jvm.Cond.privateMethod ({ cls := "CoinJudge", name := "root", desc := "(I[B)V" } : Jvm.MethodName)) ∈ lw_tbl := lw_at lw_m4 56 rfl
theorem q926 : (Jvm.Cond.instanceMethod ({ cls := "CoinJudge", name := "root", desc := "(I[B)V" } : Jvm.MethodName)) ∈ lw_all := lw_g (lw_at lw_m4 57 rfl) rfl
theorem q927 : (Jvm.Cond.code ({ cls := "CoinJudge", name := "root", desc := "(I[B)V" } : Jvm.MethodName) prog_1_method_15_code (5 : Nat) (Option.none : Option Jvm.ClassFile.FieldType)) ∈ lw_all := lw_g (lw_at lw_m4 58 rfl) rfl
theorem q928 : (Jvm.Cond.methodLink "CoinJudge" (343 : Nat) ({ cls := "java/lang/System", name := "arraycopy", desc := "(Ljava/lang/Object;ILjava/lang/Object;II)V" } : Jvm.MethodName)) ∈ lw_all := lw_g (lw_at lw_m4 59 rfl) rfl
theorem q929 : (Jvm.Cond.methodLink "CoinJudge" (357 : Nat) ({ cls := "CoinJudge$Big", name := "turned", desc := "([BI)LCoinJudge$Big;" } : Jvm.MethodName)) ∈ lw_all := lw_g (lw_at lw_m4 60 rfl) rfl
theorem q930 : (Jvm.Cond.instanceMethod ({ cls := "CoinJudge$Big", name := "turned", desc := "([BI)LCoinJudge$Big;" } : Jvm.MethodName)) ∈ lw_all := lw_g (lw_at lw_m4 61 rfl) rfl
theorem q931 : (Jvm.Cond.selects "CoinJudge$Big" ({ cls := "CoinJudge$Big", name := "turned", desc := "([BI)LCoinJudge$Big;" } : Jvm.MethodName) ({ cls := "CoinJudge$Big", name := "turned", desc := "([BI)LCoinJudge$Big;" } : Jvm.MethodName)) ∈ lw_all := lw_g (lw_at lw_m4 62 rfl) rfl
theorem q932 : (Jvm.Cond.code ({ cls := "CoinJudge$Big", name := "turned", desc := "([BI)LCoinJudge$Big;" } : Jvm.MethodName) prog_2_method_13_code (4 : Nat) (Option.some (Jvm.ClassFile.FieldType.object "CoinJudge$Big"))) ∈ lw_all := lw_g (lw_at lw_m4 63 rfl) rfl
theorem q933 : (Jvm.Cond.methodLink "CoinJudge" (123 : Nat) ({ cls := "CoinJudge", name := "read", desc := "([BI)LCoinJudge$Block;" } : Jvm.MethodName)) ∈ lw_all := lw_g (lw_at lw_m4 64 rfl) rfl
theorem q934 : (Jvm.Cond.privateMethod ({ cls := "CoinJudge", name := "read", desc := "([BI)LCoinJudge$Block;" } : Jvm.MethodName)) ∈ lw_tbl := lw_at lw_m4 65 rfl
theorem q935 : (Jvm.Cond.instanceMethod ({ cls := "CoinJudge", name := "read", desc := "([BI)LCoinJudge$Block;" } : Jvm.MethodName)) ∈ lw_all := lw_g (lw_at lw_m4 66 rfl) rfl
theorem q936 : (Jvm.Cond.code ({ cls := "CoinJudge", name := "read", desc := "([BI)LCoinJudge$Block;" } : Jvm.MethodName) prog_1_method_10_code (9 : Nat) (Option.some (Jvm.ClassFile.FieldType.object "CoinJudge$Block"))) ∈ lw_all := lw_g (lw_at lw_m4 67 rfl) rfl
theorem q937 : (Jvm.Cond.instantiable "CoinJudge$Block" (12 : Nat)) ∈ lw_all := lw_g (lw_at lw_m4 68 rfl) rfl
theorem q938 : (Jvm.Cond.methodLinkNest "CoinJudge" (305 : Nat) ({ cls := "CoinJudge$Block", name := "<init>", desc := "()V" } : Jvm.MethodName) "CoinJudge") ∈ lw_tbl := lw_at lw_m4 69 rfl
theorem q939 : (Jvm.Cond.instanceMethod ({ cls := "CoinJudge$Block", name := "<init>", desc := "()V" } : Jvm.MethodName)) ∈ lw_all := lw_g (lw_at lw_m4 70 rfl) rfl
theorem q940 : (Jvm.Cond.code ({ cls := "CoinJudge$Block", name := "<init>", desc := "()V" } : Jvm.MethodName) prog_3_method_1_code (1 : Nat) (Option.none : Option Jvm.ClassFile.FieldType)) ∈ lw_all := lw_g (lw_at lw_m4 71 rfl) rfl
theorem q941 : (Jvm.Cond.methodLink "CoinJudge$Block" (1 : Nat) ({ cls := "java/lang/Object", name := "<init>", desc := "()V" } : Jvm.MethodName)) ∈ lw_all := lw_g (lw_at lw_m4 72 rfl) rfl
theorem q942 : (Jvm.Cond.classLink "CoinJudge$Block" (13 : Nat) "CoinJudge$Big") ∈ lw_all := lw_g (lw_at lw_m4 73 rfl) rfl
theorem q943 : (Jvm.Cond.methodLinkNest "CoinJudge$Block" (15 : Nat) ({ cls := "CoinJudge$Big", name := "<init>", desc := "()V" } : Jvm.MethodName) "CoinJudge") ∈ lw_tbl := lw_at lw_m4 74 rfl
theorem q944 : (Jvm.Cond.fieldLink "CoinJudge$Block" (20 : Nat) "CoinJudge$State" "STORED" "LCoinJudge$State;") ∈ lw_all := lw_g (lw_at lw_m4 75 rfl) rfl
theorem q945 : (Jvm.Cond.laysStatic "CoinJudge$State" "STORED" "LCoinJudge$State;") ∈ lw_tbl := lw_at lw_m4 76 rfl
theorem q946 : (Jvm.Cond.classLink "CoinJudge$Block" (29 : Nat) "java/util/ArrayList") ∈ lw_all := lw_g (lw_at lw_m4 77 rfl) rfl
theorem q947 : (Jvm.Cond.instantiable "java/util/ArrayList" (3 : Nat)) ∈ lw_all := lw_g (lw_at lw_m4 78 rfl) rfl
theorem q948 : (Jvm.Cond.methodLink "CoinJudge$Block" (31 : Nat) ({ cls := "java/util/ArrayList", name := "<init>", desc := "()V" } : Jvm.MethodName)) ∈ lw_all := lw_g (lw_at lw_m4 79 rfl) rfl
theorem q949 : (Jvm.Cond.instanceMethod ({ cls := "java/util/ArrayList", name := "<init>", desc := "()V" } : Jvm.MethodName)) ∈ lw_all := lw_g (lw_at lw_m4 80 rfl) rfl
theorem q950 : (Jvm.Cond.code ({ cls := "java/util/ArrayList", name := "<init>", desc := "()V" } : Jvm.MethodName) prog_52_method_2_code (1 : Nat) (Option.none : Option Jvm.ClassFile.FieldType)) ∈ lw_all := lw_g (lw_at lw_m4 81 rfl) rfl
theorem q951 : (Jvm.Cond.methodLink "java/util/ArrayList" (1 : Nat) ({ cls := "java/util/AbstractList", name := "<init>", desc := "()V" } : Jvm.MethodName)) ∈ lw_all := lw_g (lw_at lw_m4 82 rfl) rfl
theorem q952 : (Jvm.Cond.instanceMethod ({ cls := "java/util/AbstractList", name := "<init>", desc := "()V" } : Jvm.MethodName)) ∈ lw_all := lw_g (lw_at lw_m4 83 rfl) rfl
theorem q953 : (Jvm.Cond.code ({ cls := "java/util/AbstractList", name := "<init>", desc := "()V" } : Jvm.MethodName) prog_51_method_1_code (1 : Nat) (Option.none : Option Jvm.ClassFile.FieldType)) ∈ lw_all := lw_g (lw_at lw_m4 84 rfl) rfl
theorem q954 : (Jvm.Cond.methodLink "java/util/AbstractList" (1 : Nat) ({ cls := "java/util/AbstractCollection", name := "<init>", desc := "()V" } : Jvm.MethodName)) ∈ lw_all := lw_g (lw_at lw_m4 85 rfl) rfl
theorem q955 : (Jvm.Cond.instanceMethod ({ cls := "java/util/AbstractCollection", name := "<init>", desc := "()V" } : Jvm.MethodName)) ∈ lw_all := lw_g (lw_at lw_m4 86 rfl) rfl
theorem q956 : (Jvm.Cond.code ({ cls := "java/util/AbstractCollection", name := "<init>", desc := "()V" } : Jvm.MethodName) prog_50_method_1_code (1 : Nat) (Option.none : Option Jvm.ClassFile.FieldType)) ∈ lw_all := lw_g (lw_at lw_m4 87 rfl) rfl
theorem q957 : (Jvm.Cond.methodLink "java/util/AbstractCollection" (1 : Nat) ({ cls := "java/lang/Object", name := "<init>", desc := "()V" } : Jvm.MethodName)) ∈ lw_all := lw_g (lw_at lw_m4 88 rfl) rfl
theorem q958 : (Jvm.Cond.fieldLink "java/util/ArrayList" (39 : Nat) "java/util/ArrayList" "DEFAULTCAPACITY_EMPTY_ELEMENTDATA" "[Ljava/lang/Object;") ∈ lw_all := lw_g (lw_at lw_m4 89 rfl) rfl
theorem q959 : (Jvm.Cond.laysStatic "java/util/ArrayList" "DEFAULTCAPACITY_EMPTY_ELEMENTDATA" "[Ljava/lang/Object;") ∈ lw_tbl := lw_at lw_m4 90 rfl
theorem q960 : (Jvm.Cond.fieldLink "java/util/ArrayList" (9 : Nat) "java/util/ArrayList" "elementData" "[Ljava/lang/Object;") ∈ lw_all := lw_g (lw_at lw_m4 91 rfl) rfl
theorem q961 : (Jvm.Cond.fieldLink "java/util/ArrayList" (48 : Nat) "java/util/ArrayList" "size" "I") ∈ lw_all := lw_g (lw_at lw_m4 92 rfl) rfl
theorem q962 : (Jvm.Cond.fieldLink "java/util/AbstractList" (7 : Nat) "java/util/AbstractList" "modCount" "I") ∈ lw_all := lw_g (lw_at lw_m4 93 rfl) rfl
theorem q963 : (Jvm.Cond.fieldLink "java/util/ArrayList" (63 : Nat) "java/util/ArrayList" "modCount" "I") ∈ lw_all := lw_g (lw_at lw_m4 94 rfl) rfl
theorem q964 : (Jvm.Cond.sameField "java/util/ArrayList" "java/util/AbstractList" "modCount" "I") ∈ lw_all := lw_g (lw_at lw_m4 95 rfl) rfl
theorem q965 : (Jvm.Cond.lays "java/util/ArrayList" "java/util/ArrayList" "elementData" "[Ljava/lang/Object;") ∈ lw_all := lw_g (lw_at lw_m4 96 rfl) rfl
theorem q966 : (Jvm.Cond.soleField "java/util/ArrayList" "elementData") ∈ lw_all := lw_g (lw_at lw_m4 97 rfl) rfl
theorem q967 : (Jvm.Cond.lays "java/util/ArrayList" "java/util/ArrayList" "size" "I") ∈ lw_all := lw_g (lw_at lw_m4 98 rfl) rfl
theorem q968 : (Jvm.Cond.soleField "java/util/ArrayList" "size") ∈ lw_all := lw_g (lw_at lw_m4 99 rfl) rfl
theorem q969 : (Jvm.Cond.lays "java/util/ArrayList" "java/util/AbstractList" "modCount" "I") ∈ lw_all := lw_g (lw_at lw_m4 100 rfl) rfl
theorem q970 : (Jvm.Cond.soleField "java/util/AbstractList" "modCount") ∈ lw_all := lw_g (lw_at lw_m4 101 rfl) rfl
theorem q971 : (Jvm.Cond.superclass "java/util/ArrayList" "java/util/AbstractList") ∈ lw_all := lw_g (lw_at lw_m4 102 rfl) rfl
theorem q972 : (Jvm.Cond.arrayClass Jvm.ClassFile.FieldType.long) ∈ lw_all := lw_g (lw_at lw_m4 103 rfl) rfl
theorem q973 : (Jvm.Cond.fieldLinkNest "CoinJudge" (349 : Nat) "CoinJudge$Block" "number" "I" "CoinJudge") ∈ lw_tbl := lw_at lw_m4 104 rfl
theorem q974 : (Jvm.Cond.fieldLinkNest "CoinJudge" (306 : Nat) "CoinJudge$Block" "bytes" "[B" "CoinJudge") ∈ lw_tbl := lw_at lw_m4 105 rfl
theorem q975 : (Jvm.Cond.fieldLinkNest "CoinJudge" (309 : Nat) "CoinJudge$Block" "size" "I" "CoinJudge") ∈ lw_tbl := lw_at lw_m4 106 rfl
theorem q976 : (Jvm.Cond.fieldLink "CoinJudge$Block" (7 : Nat) "CoinJudge$Block" "hash" "[B") ∈ lw_all := lw_g (lw_at lw_m4 107 rfl) rfl
theorem q977 : (Jvm.Cond.fieldLinkNest "CoinJudge" (338 : Nat) "CoinJudge$Block" "hash" "[B" "CoinJudge") ∈ lw_tbl := lw_at lw_m4 108 rfl
theorem q978 : (Jvm.Cond.fieldLinkNest "CoinJudge" (199 : Nat) "CoinJudge$Block" "parent" "LCoinJudge$Block;" "CoinJudge") ∈ lw_tbl := lw_at lw_m4 109 rfl
theorem q979 : (Jvm.Cond.fieldLinkNest "CoinJudge" (196 : Nat) "CoinJudge$Block" "height" "I" "CoinJudge") ∈ lw_tbl := lw_at lw_m4 110 rfl
theorem q980 : (Jvm.Cond.fieldLink "CoinJudge$Block" (16 : Nat) "CoinJudge$Block" "work" "LCoinJudge$Big;") ∈ lw_all := lw_g (lw_at lw_m4 111 rfl) rfl
theorem q981 : (Jvm.Cond.fieldLinkNest "CoinJudge" (127 : Nat) "CoinJudge$Block" "work" "LCoinJudge$Big;" "CoinJudge") ∈ lw_tbl := lw_at lw_m4 112 rfl
theorem q982 : (Jvm.Cond.fieldLinkNest "CoinJudge" (162 : Nat) "CoinJudge$Block" "time" "J" "CoinJudge") ∈ lw_tbl := lw_at lw_m4 113 rfl
theorem q983 : (Jvm.Cond.fieldLinkNest "CoinJudge" (130 : Nat) "CoinJudge$Block" "bits" "I" "CoinJudge") ∈ lw_tbl := lw_at lw_m4 114 rfl
theorem q984 : (Jvm.Cond.fieldLinkNest "CoinJudge$Coin" (27 : Nat) "CoinJudge$Block" "txs" "[LCoinJudge$Tx;" "CoinJudge") ∈ lw_tbl := lw_at lw_m4 115 rfl
theorem q985 : (Jvm.Cond.fieldLinkNest "CoinJudge" (319 : Nat) "CoinJudge$Block" "txs" "[LCoinJudge$Tx;" "CoinJudge") ∈ lw_tbl := lw_at lw_m4 116 rfl
theorem q986 : (Jvm.Cond.fieldLink "CoinJudge$Block" (26 : Nat) "CoinJudge$Block" "state" "LCoinJudge$State;") ∈ lw_all := lw_g (lw_at lw_m4 117 rfl) rfl
theorem q987 : (Jvm.Cond.fieldLinkNest "CoinJudge" (155 : Nat) "CoinJudge$Block" "state" "LCoinJudge$State;" "CoinJudge") ∈ lw_tbl := lw_at lw_m4 118 rfl
theorem q988 : (Jvm.Cond.fieldLink "CoinJudge$Block" (32 : Nat) "CoinJudge$Block" "taken" "Ljava/util/List;") ∈ lw_all := lw_g (lw_at lw_m4 119 rfl) rfl
theorem q989 : (Jvm.Cond.fieldLinkNest "CoinJudge" (443 : Nat) "CoinJudge$Block" "taken" "Ljava/util/List;" "CoinJudge") ∈ lw_tbl := lw_at lw_m4 120 rfl
theorem q990 : (Jvm.Cond.lays "CoinJudge$Block" "CoinJudge$Block" "number" "I") ∈ lw_all := lw_g (lw_at lw_m4 121 rfl) rfl
theorem q991 : (Jvm.Cond.soleField "CoinJudge$Block" "number") ∈ lw_all := lw_g (lw_at lw_m4 122 rfl) rfl
theorem q992 : (Jvm.Cond.lays "CoinJudge$Block" "CoinJudge$Block" "bytes" "[B") ∈ lw_all := lw_g (lw_at lw_m4 123 rfl) rfl
theorem q993 : (Jvm.Cond.soleField "CoinJudge$Block" "bytes") ∈ lw_all := lw_g (lw_at lw_m4 124 rfl) rfl
theorem q994 : (Jvm.Cond.lays "CoinJudge$Block" "CoinJudge$Block" "size" "I") ∈ lw_all := lw_g (lw_at lw_m4 125 rfl) rfl
theorem q995 : (Jvm.Cond.soleField "CoinJudge$Block" "size") ∈ lw_all := lw_g (lw_at lw_m4 126 rfl) rfl
theorem q996 : (Jvm.Cond.laysFinal "CoinJudge$Block" "CoinJudge$Block" "hash" "[B") ∈ lw_all := lw_g (lw_at lw_m4 127 rfl) rfl
theorem q997 : (Jvm.Cond.soleField "CoinJudge$Block" "hash") ∈ lw_all := lw_g (lw_at lw_m4 128 rfl) rfl
theorem q998 : (Jvm.Cond.lays "CoinJudge$Block" "CoinJudge$Block" "parent" "LCoinJudge$Block;") ∈ lw_all := lw_g (lw_at lw_m4 129 rfl) rfl
theorem q999 : (Jvm.Cond.soleField "CoinJudge$Block" "parent") ∈ lw_all := lw_g (lw_at lw_m4 130 rfl) rfl
theorem q1000 : (Jvm.Cond.lays "CoinJudge$Block" "CoinJudge$Block" "height" "I") ∈ lw_all := lw_g (lw_at lw_m4 131 rfl) rfl
theorem q1001 : (Jvm.Cond.soleField "CoinJudge$Block" "height") ∈ lw_all := lw_g (lw_at lw_m4 132 rfl) rfl
theorem q1002 : (Jvm.Cond.laysFinal "CoinJudge$Block" "CoinJudge$Block" "work" "LCoinJudge$Big;") ∈ lw_all := lw_g (lw_at lw_m4 133 rfl) rfl
theorem q1003 : (Jvm.Cond.soleField "CoinJudge$Block" "work") ∈ lw_all := lw_g (lw_at lw_m4 134 rfl) rfl
theorem q1004 : (Jvm.Cond.lays "CoinJudge$Block" "CoinJudge$Block" "time" "J") ∈ lw_all := lw_g (lw_at lw_m4 135 rfl) rfl
theorem q1005 : (Jvm.Cond.soleField "CoinJudge$Block" "time") ∈ lw_all := lw_g (lw_at lw_m4 136 rfl) rfl
theorem q1006 : (Jvm.Cond.lays "CoinJudge$Block" "CoinJudge$Block" "bits" "I") ∈ lw_all := lw_g (lw_at lw_m4 137 rfl) rfl
theorem q1007 : (Jvm.Cond.soleField "CoinJudge$Block" "bits") ∈ lw_all := lw_g (lw_at lw_m4 138 rfl) rfl
theorem q1008 : (Jvm.Cond.lays "CoinJudge$Block" "CoinJudge$Block" "txs" "[LCoinJudge$Tx;") ∈ lw_all := lw_g (lw_at lw_m4 139 rfl) rfl
theorem q1009 : (Jvm.Cond.soleField "CoinJudge$Block" "txs") ∈ lw_all := lw_g (lw_at lw_m4 140 rfl) rfl
theorem q1010 : (Jvm.Cond.lays "CoinJudge$Block" "CoinJudge$Block" "state" "LCoinJudge$State;") ∈ lw_all := lw_g (lw_at lw_m4 141 rfl) rfl
theorem q1011 : (Jvm.Cond.soleField "CoinJudge$Block" "state") ∈ lw_all := lw_g (lw_at lw_m4 142 rfl) rfl
theorem q1012 : (Jvm.Cond.laysFinal "CoinJudge$Block" "CoinJudge$Block" "taken" "Ljava/util/List;") ∈ lw_all := lw_g (lw_at lw_m4 143 rfl) rfl
theorem q1013 : (Jvm.Cond.soleField "CoinJudge$Block" "taken") ∈ lw_all := lw_g (lw_at lw_m4 144 rfl) rfl
theorem q1014 : (Jvm.Cond.superclass "CoinJudge$Block" "java/lang/Object") ∈ lw_all := lw_g (lw_at lw_m4 145 rfl) rfl
theorem q1015 : (Jvm.Cond.classLink "CoinJudge" (234 : Nat) "CoinJudge$Source") ∈ lw_all := lw_g (lw_at lw_m4 146 rfl) rfl
theorem q1016 : (Jvm.Cond.instantiable "CoinJudge$Source" (3 : Nat)) ∈ lw_all := lw_g (lw_at lw_m4 147 rfl) rfl
theorem q1017 : (Jvm.Cond.methodLink "CoinJudge" (312 : Nat) ({ cls := "CoinJudge$Source", name := "<init>", desc := "([BI)V" } : Jvm.MethodName)) ∈ lw_all := lw_g (lw_at lw_m4 148 rfl) rfl
theorem q1018 : (Jvm.Cond.instanceMethod ({ cls := "CoinJudge$Source", name := "<init>", desc := "([BI)V" } : Jvm.MethodName)) ∈ lw_all := lw_g (lw_at lw_m4 149 rfl) rfl
theorem q1019 : (Jvm.Cond.code ({ cls := "CoinJudge$Source", name := "<init>", desc := "([BI)V" } : Jvm.MethodName) prog_23_method_1_code (3 : Nat) (Option.none : Option Jvm.ClassFile.FieldType)) ∈ lw_all := lw_g (lw_at lw_m4 150 rfl) rfl
theorem q1020 : (Jvm.Cond.methodLink "CoinJudge$Source" (1 : Nat) ({ cls := "java/lang/Object", name := "<init>", desc := "()V" } : Jvm.MethodName)) ∈ lw_all := lw_g (lw_at lw_m4 151 rfl) rfl
theorem q1021 : (Jvm.Cond.fieldLink "CoinJudge$Source" (7 : Nat) "CoinJudge$Source" "bytes" "[B") ∈ lw_all := lw_g (lw_at lw_m4 152 rfl) rfl
theorem q1022 : (Jvm.Cond.fieldLink "CoinJudge$Source" (17 : Nat) "CoinJudge$Source" "at" "I") ∈ lw_all := lw_g (lw_at lw_m4 153 rfl) rfl
theorem q1023 : (Jvm.Cond.fieldLink "CoinJudge$Source" (13 : Nat) "CoinJudge$Source" "end" "I") ∈ lw_all := lw_g (lw_at lw_m4 154 rfl) rfl
theorem q1024 : (Jvm.Cond.laysFinal "CoinJudge$Source" "CoinJudge$Source" "bytes" "[B") ∈ lw_all := lw_g (lw_at lw_m4 155 rfl) rfl
theorem q1025 : (Jvm.Cond.soleField "CoinJudge$Source" "bytes") ∈ lw_all := lw_g (lw_at lw_m4 156 rfl) rfl
theorem q1026 : (Jvm.Cond.lays "CoinJudge$Source" "CoinJudge$Source" "at" "I") ∈ lw_all := lw_g (lw_at lw_m4 157 rfl) rfl
theorem q1027 : (Jvm.Cond.soleField "CoinJudge$Source" "at") ∈ lw_all := lw_g (lw_at lw_m4 158 rfl) rfl
theorem q1028 : (Jvm.Cond.laysFinal "CoinJudge$Source" "CoinJudge$Source" "end" "I") ∈ lw_all := lw_g (lw_at lw_m4 159 rfl) rfl
theorem q1029 : (Jvm.Cond.soleField "CoinJudge$Source" "end") ∈ lw_all := lw_g (lw_at lw_m4 160 rfl) rfl
theorem q1030 : (Jvm.Cond.superclass "CoinJudge$Source" "java/lang/Object") ∈ lw_all := lw_g (lw_at lw_m4 161 rfl) rfl
theorem q1031 : (Jvm.Cond.constantLong "CoinJudge" (315 : Nat) (68 : Int64)) ∈ lw_all := lw_g (lw_at lw_m4 162 rfl) rfl
theorem q1032 : (Jvm.Cond.methodLink "CoinJudge" (266 : Nat) ({ cls := "CoinJudge$Source", name := "pass", desc := "(J)I" } : Jvm.MethodName)) ∈ lw_all := lw_g (lw_at lw_m4 163 rfl) rfl
theorem q1033 : (Jvm.Cond.instanceMethod ({ cls := "CoinJudge$Source", name := "pass", desc := "(J)I" } : Jvm.MethodName)) ∈ lw_all := lw_g (lw_at lw_m4 164 rfl) rfl
theorem q1034 : (Jvm.Cond.selects "CoinJudge$Source" ({ cls := "CoinJudge$Source", name := "pass", desc := "(J)I" } : Jvm.MethodName) ({ cls := "CoinJudge$Source", name := "pass", desc := "(J)I" } : Jvm.MethodName)) ∈ lw_all := lw_g (lw_at lw_m4 165 rfl) rfl
theorem q1035 : (Jvm.Cond.code ({ cls := "CoinJudge$Source", name := "pass", desc := "(J)I" } : Jvm.MethodName) prog_23_method_4_code (4 : Nat) (Option.some Jvm.ClassFile.FieldType.int)) ∈ lw_all := lw_g (lw_at lw_m4 166 rfl) rfl
theorem q1036 : (Jvm.Cond.classLink "CoinJudge$Source" (20 : Nat) "CoinJudge$Broken") ∈ lw_all := lw_g (lw_at lw_m4 167 rfl) rfl
theorem q1037 : (Jvm.Cond.instantiable "CoinJudge$Broken" (6 : Nat)) ∈ lw_all := lw_g (lw_at lw_m4 168 rfl) rfl
theorem q1038 : (Jvm.Cond.castable "CoinJudge$Broken" "CoinJudge$Broken") ∈ lw_tbl := lw_at lw_m4 169 rfl
theorem q1039 : (Jvm.Cond.selects "CoinJudge$Broken" ({ cls := "java/lang/Throwable", name := "fillInStackTrace", desc := "(I)Ljava/lang/Throwable;" } : Jvm.MethodName) ({ cls := "java/lang/Throwable", name := "fillInStackTrace", desc := "(I)Ljava/lang/Throwable;" } : Jvm.MethodName)) ∈ lw_all := lw_g (lw_at lw_m4 170 rfl) rfl
theorem q1040 : (Jvm.Cond.lays "CoinJudge$Broken" "java/lang/Throwable" "cause" "Ljava/lang/Throwable;") ∈ lw_all := lw_g (lw_at lw_m4 171 rfl) rfl
theorem q1041 : (Jvm.Cond.lays "CoinJudge$Broken" "java/lang/Throwable" "stackTrace" "[Ljava/lang/StackTraceElement;") ∈ lw_all := lw_g (lw_at lw_m4 172 rfl) rfl
theorem q1042 : (Jvm.Cond.lays "CoinJudge$Broken" "java/lang/Throwable" "suppressedExceptions" "Ljava/util/List;") ∈ lw_all := lw_g (lw_at lw_m4 173 rfl) rfl
theorem q1043 : (Jvm.Cond.lays "CoinJudge$Broken" "java/lang/Throwable" "detailMessage" "Ljava/lang/String;") ∈ lw_all := lw_g (lw_at lw_m4 174 rfl) rfl
theorem q1044 : (Jvm.Cond.lays "CoinJudge$Broken" "java/lang/Throwable" "backtrace" "Ljava/lang/Object;") ∈ lw_all := lw_g (lw_at lw_m4 175 rfl) rfl
theorem q1045 : (Jvm.Cond.methodLinkNest "CoinJudge$Source" (22 : Nat) ({ cls := "CoinJudge$Broken", name := "<init>", desc := "()V" } : Jvm.MethodName) "CoinJudge") ∈ lw_tbl := lw_at lw_m4 176 rfl
theorem q1046 : (Jvm.Cond.instanceMethod ({ cls := "CoinJudge$Broken", name := "<init>", desc := "()V" } : Jvm.MethodName)) ∈ lw_all := lw_g (lw_at lw_m4 177 rfl) rfl
theorem q1047 : (Jvm.Cond.code ({ cls := "CoinJudge$Broken", name := "<init>", desc := "()V" } : Jvm.MethodName) prog_4_method_1_code (1 : Nat) (Option.none : Option Jvm.ClassFile.FieldType)) ∈ lw_all := lw_g (lw_at lw_m4 178 rfl) rfl
theorem q1048 : (Jvm.Cond.methodLink "CoinJudge$Broken" (1 : Nat) ({ cls := "java/lang/RuntimeException", name := "<init>", desc := "()V" } : Jvm.MethodName)) ∈ lw_all := lw_g (lw_at lw_m4 179 rfl) rfl
theorem q1049 : (Jvm.Cond.lays "CoinJudge$Broken" "java/lang/Throwable" "depth" "I") ∈ lw_all := lw_g (lw_at lw_m4 180 rfl) rfl
theorem q1050 : (Jvm.Cond.superclass "CoinJudge$Broken" "java/lang/RuntimeException") ∈ lw_all := lw_g (lw_at lw_m4 181 rfl) rfl
theorem q1051 : (Jvm.Cond.methodLink "CoinJudge" (241 : Nat) ({ cls := "CoinJudge$Source", name := "number", desc := "(I)J" } : Jvm.MethodName)) ∈ lw_all := lw_g (lw_at lw_m4 182 rfl) rfl
theorem q1052 : (Jvm.Cond.instanceMethod ({ cls := "CoinJudge$Source", name := "number", desc := "(I)J" } : Jvm.MethodName)) ∈ lw_all := lw_g (lw_at lw_m4 183 rfl) rfl
theorem q1053 : (Jvm.Cond.selects "CoinJudge$Source" ({ cls := "CoinJudge$Source", name := "number", desc := "(I)J" } : Jvm.MethodName) ({ cls := "CoinJudge$Source", name := "number", desc := "(I)J" } : Jvm.MethodName)) ∈ lw_all := lw_g (lw_at lw_m4 184 rfl) rfl
theorem q1054 : (Jvm.Cond.code ({ cls := "CoinJudge$Source", name := "number", desc := "(I)J" } : Jvm.MethodName) prog_23_method_5_code (6 : Nat) (Option.some Jvm.ClassFile.FieldType.long)) ∈ lw_all := lw_g (lw_at lw_m4 185 rfl) rfl
theorem q1055 : (Jvm.Cond.methodLink "CoinJudge$Source" (23 : Nat) ({ cls := "CoinJudge$Source", name := "pass", desc := "(J)I" } : Jvm.MethodName)) ∈ lw_all := lw_g (lw_at lw_m4 186 rfl) rfl
theorem q1056 : (Jvm.Cond.methodLink "CoinJudge" (248 : Nat) ({ cls := "CoinJudge$Source", name := "count", desc := "()J" } : Jvm.MethodName)) ∈ lw_all := lw_g (lw_at lw_m4 187 rfl) rfl
theorem q1057 : (Jvm.Cond.instanceMethod ({ cls := "CoinJudge$Source", name := "count", desc := "()J" } : Jvm.MethodName)) ∈ lw_all := lw_g (lw_at lw_m4 188 rfl) rfl
theorem q1058 : (Jvm.Cond.selects "CoinJudge$Source" ({ cls := "CoinJudge$Source", name := "count", desc := "()J" } : Jvm.MethodName) ({ cls := "CoinJudge$Source", name := "count", desc := "()J" } : Jvm.MethodName)) ∈ lw_all := lw_g (lw_at lw_m4 189 rfl) rfl
theorem q1059 : (Jvm.Cond.code ({ cls := "CoinJudge$Source", name := "count", desc := "()J" } : Jvm.MethodName) prog_23_method_6_code (5 : Nat) (Option.some Jvm.ClassFile.FieldType.long)) ∈ lw_all := lw_g (lw_at lw_m4 190 rfl) rfl
theorem q1060 : (Jvm.Cond.methodLink "CoinJudge$Source" (27 : Nat) ({ cls := "CoinJudge$Source", name := "number", desc := "(I)J" } : Jvm.MethodName)) ∈ lw_all := lw_g (lw_at lw_m4 191 rfl) rfl
theorem q1061 : (Jvm.Cond.constantLong "CoinJudge$Source" (31 : Nat) (253 : Int64)) ∈ lw_all := lw_g (lw_at lw_m4 192 rfl) rfl
theorem q1062 : (Jvm.Cond.constantLong "CoinJudge$Source" (33 : Nat) (65536 : Int64)) ∈ lw_all := lw_g (lw_at lw_m4 193 rfl) rfl
theorem q1063 : (Jvm.Cond.constantLong "CoinJudge$Source" (35 : Nat) (4294967296 : Int64)) ∈ lw_all := lw_g (lw_at lw_m4 194 rfl) rfl
theorem q1064 : (Jvm.Cond.constantLong "CoinJudge" (317 : Nat) (12 : Int64)) ∈ lw_all := lw_g (lw_at lw_m4 195 rfl) rfl
theorem q1065 : (Jvm.Cond.classLink "CoinJudge" (254 : Nat) "CoinJudge$Broken") ∈ lw_all := lw_g (lw_at lw_m4 196 rfl) rfl
theorem q1066 : (Jvm.Cond.methodLinkNest "CoinJudge" (256 : Nat) ({ cls := "CoinJudge$Broken", name := "<init>", desc := "()V" } : Jvm.MethodName) "CoinJudge") ∈ lw_tbl := lw_at lw_m4 197 rfl
theorem q1067 : (Jvm.Cond.classLink "CoinJudge" (230 : Nat) "CoinJudge$Tx") ∈ lw_all := lw_g (lw_at lw_m4 198 rfl) rfl
theorem q1068 : (Jvm.Cond.arrayOver (Jvm.ClassFile.FieldType.object "CoinJudge$Tx")) ∈ lw_tbl := lw_at lw_m4 199 rfl
theorem q1069 : (Jvm.Cond.methodLink "CoinJudge" (323 : Nat) ({ cls := "CoinJudge", name := "transaction", desc := "(LCoinJudge$Source;)LCoinJudge$Tx;" } : Jvm.MethodName)) ∈ lw_all := lw_g (lw_at lw_m4 200 rfl) rfl
theorem q1070 : (Jvm.Cond.static ({ cls := "CoinJudge", name := "transaction", desc := "(LCoinJudge$Source;)LCoinJudge$Tx;" } : Jvm.MethodName)) ∈ lw_all := lw_g (lw_at lw_m4 201 rfl) rfl
theorem q1071 : (Jvm.Cond.code ({ cls := "CoinJudge", name := "transaction", desc := "(LCoinJudge$Source;)LCoinJudge$Tx;" } : Jvm.MethodName) prog_1_method_9_code (8 : Nat) (Option.some (Jvm.ClassFile.FieldType.object "CoinJudge$Tx"))) ∈ lw_all := lw_g (lw_at lw_m4 202 rfl) rfl
theorem q1072 : (Jvm.Cond.instantiable "CoinJudge$Tx" (7 : Nat)) ∈ lw_all := lw_g (lw_at lw_m4 203 rfl) rfl
theorem q1073 : (Jvm.Cond.methodLinkNest "CoinJudge" (232 : Nat) ({ cls := "CoinJudge$Tx", name := "<init>", desc := "()V" } : Jvm.MethodName) "CoinJudge") ∈ lw_tbl := lw_at lw_m4 204 rfl
theorem q1074 : (Jvm.Cond.instanceMethod ({ cls := "CoinJudge$Tx", name := "<init>", desc := "()V" } : Jvm.MethodName)) ∈ lw_all := lw_g (lw_at lw_m4 205 rfl) rfl
theorem q1075 : (Jvm.Cond.code ({ cls := "CoinJudge$Tx", name := "<init>", desc := "()V" } : Jvm.MethodName) prog_25_method_1_code (1 : Nat) (Option.none : Option Jvm.ClassFile.FieldType)) ∈ lw_all := lw_g (lw_at lw_m4 206 rfl) rfl
theorem q1076 : (Jvm.Cond.methodLink "CoinJudge$Tx" (1 : Nat) ({ cls := "java/lang/Object", name := "<init>", desc := "()V" } : Jvm.MethodName)) ∈ lw_all := lw_g (lw_at lw_m4 207 rfl) rfl
theorem q1077 : (Jvm.Cond.fieldLinkNest "CoinJudge" (238 : Nat) "CoinJudge$Tx" "begin" "I" "CoinJudge") ∈ lw_tbl := lw_at lw_m4 208 rfl
theorem q1078 : (Jvm.Cond.fieldLinkNest "CoinJudge" (302 : Nat) "CoinJudge$Tx" "end" "I" "CoinJudge") ∈ lw_tbl := lw_at lw_m4 209 rfl
theorem q1079 : (Jvm.Cond.fieldLink "CoinJudge$Tx" (7 : Nat) "CoinJudge$Tx" "id" "[B") ∈ lw_all := lw_g (lw_at lw_m4 210 rfl) rfl
theorem q1080 : (Jvm.Cond.fieldLinkNest "CoinJudge$Coins" (36 : Nat) "CoinJudge$Tx" "id" "[B" "CoinJudge") ∈ lw_tbl := lw_at lw_m4 211 rfl
theorem q1081 : (Jvm.Cond.fieldLinkNest "CoinJudge" (327 : Nat) "CoinJudge$Tx" "id" "[B" "CoinJudge") ∈ lw_tbl := lw_at lw_m4 212 rfl
theorem q1082 : (Jvm.Cond.fieldLinkNest "CoinJudge$Signing" (58 : Nat) "CoinJudge$Tx" "version" "J" "CoinJudge") ∈ lw_tbl := lw_at lw_m4 213 rfl
theorem q1083 : (Jvm.Cond.fieldLinkNest "CoinJudge" (245 : Nat) "CoinJudge$Tx" "version" "J" "CoinJudge") ∈ lw_tbl := lw_at lw_m4 214 rfl
theorem q1084 : (Jvm.Cond.fieldLinkNest "CoinJudge$Signing" (101 : Nat) "CoinJudge$Tx" "lock" "J" "CoinJudge") ∈ lw_tbl := lw_at lw_m4 215 rfl
theorem q1085 : (Jvm.Cond.fieldLinkNest "CoinJudge" (299 : Nat) "CoinJudge$Tx" "lock" "J" "CoinJudge") ∈ lw_tbl := lw_at lw_m4 216 rfl
theorem q1086 : (Jvm.Cond.fieldLinkNest "CoinJudge$Signing" (62 : Nat) "CoinJudge$Tx" "inputs" "[LCoinJudge$Input;" "CoinJudge") ∈ lw_tbl := lw_at lw_m4 217 rfl
theorem q1087 : (Jvm.Cond.fieldLinkNest "CoinJudge" (259 : Nat) "CoinJudge$Tx" "inputs" "[LCoinJudge$Input;" "CoinJudge") ∈ lw_tbl := lw_at lw_m4 218 rfl
theorem q1088 : (Jvm.Cond.fieldLinkNest "CoinJudge$Coin" (21 : Nat) "CoinJudge$Tx" "outputs" "[LCoinJudge$Output;" "CoinJudge") ∈ lw_tbl := lw_at lw_m4 219 rfl
theorem q1089 : (Jvm.Cond.fieldLinkNest "CoinJudge$Signing" (52 : Nat) "CoinJudge$Tx" "outputs" "[LCoinJudge$Output;" "CoinJudge") ∈ lw_tbl := lw_at lw_m4 220 rfl
theorem q1090 : (Jvm.Cond.fieldLinkNest "CoinJudge" (289 : Nat) "CoinJudge$Tx" "outputs" "[LCoinJudge$Output;" "CoinJudge") ∈ lw_tbl := lw_at lw_m4 221 rfl
theorem q1091 : (Jvm.Cond.lays "CoinJudge$Tx" "CoinJudge$Tx" "begin" "I") ∈ lw_all := lw_g (lw_at lw_m4 222 rfl) rfl
theorem q1092 : (Jvm.Cond.soleField "CoinJudge$Tx" "begin") ∈ lw_all := lw_g (lw_at lw_m4 223 rfl) rfl
theorem q1093 : (Jvm.Cond.lays "CoinJudge$Tx" "CoinJudge$Tx" "end" "I") ∈ lw_all := lw_g (lw_at lw_m4 224 rfl) rfl
theorem q1094 : (Jvm.Cond.soleField "CoinJudge$Tx" "end") ∈ lw_all := lw_g (lw_at lw_m4 225 rfl) rfl
theorem q1095 : (Jvm.Cond.laysFinal "CoinJudge$Tx" "CoinJudge$Tx" "id" "[B") ∈ lw_all := lw_g (lw_at lw_m4 226 rfl) rfl
theorem q1096 : (Jvm.Cond.soleField "CoinJudge$Tx" "id") ∈ lw_all := lw_g (lw_at lw_m4 227 rfl) rfl
theorem q1097 : (Jvm.Cond.lays "CoinJudge$Tx" "CoinJudge$Tx" "version" "J") ∈ lw_all := lw_g (lw_at lw_m4 228 rfl) rfl
theorem q1098 : (Jvm.Cond.soleField "CoinJudge$Tx" "version") ∈ lw_all := lw_g (lw_at lw_m4 229 rfl) rfl
theorem q1099 : (Jvm.Cond.lays "CoinJudge$Tx" "CoinJudge$Tx" "lock" "J") ∈ lw_all := lw_g (lw_at lw_m4 230 rfl) rfl
theorem q1100 : (Jvm.Cond.soleField "CoinJudge$Tx" "lock") ∈ lw_all := lw_g (lw_at lw_m4 231 rfl) rfl
theorem q1101 : (Jvm.Cond.lays "CoinJudge$Tx" "CoinJudge$Tx" "inputs" "[LCoinJudge$Input;") ∈ lw_all := lw_g (lw_at lw_m4 232 rfl) rfl
theorem q1102 : (Jvm.Cond.soleField "CoinJudge$Tx" "inputs") ∈ lw_all := lw_g (lw_at lw_m4 233 rfl) rfl
theorem q1103 : (Jvm.Cond.lays "CoinJudge$Tx" "CoinJudge$Tx" "outputs" "[LCoinJudge$Output;") ∈ lw_all := lw_g (lw_at lw_m4 234 rfl) rfl
theorem q1104 : (Jvm.Cond.soleField "CoinJudge$Tx" "outputs") ∈ lw_all := lw_g (lw_at lw_m4 235 rfl) rfl
theorem q1105 : (Jvm.Cond.superclass "CoinJudge$Tx" "java/lang/Object") ∈ lw_all := lw_g (lw_at lw_m4 236 rfl) rfl
theorem q1106 : (Jvm.Cond.methodLink "CoinJudge" (233 : Nat) ({ cls := "CoinJudge$Source", name := "at", desc := "()I" } : Jvm.MethodName)) ∈ lw_all := lw_g (lw_at lw_m4 237 rfl) rfl
theorem q1107 : (Jvm.Cond.instanceMethod ({ cls := "CoinJudge$Source", name := "at", desc := "()I" } : Jvm.MethodName)) ∈ lw_all := lw_g (lw_at lw_m4 238 rfl) rfl
theorem q1108 : (Jvm.Cond.selects "CoinJudge$Source" ({ cls := "CoinJudge$Source", name := "at", desc := "()I" } : Jvm.MethodName) ({ cls := "CoinJudge$Source", name := "at", desc := "()I" } : Jvm.MethodName)) ∈ lw_all := lw_g (lw_at lw_m4 239 rfl) rfl
theorem q1109 : (Jvm.Cond.code ({ cls := "CoinJudge$Source", name := "at", desc := "()I" } : Jvm.MethodName) prog_23_method_2_code (1 : Nat) (Option.some Jvm.ClassFile.FieldType.int)) ∈ lw_all := lw_g (lw_at lw_m5 0 rfl) rfl
theorem q1110 : (Jvm.Cond.constantLong "CoinJudge" (252 : Nat) (40 : Int64)) ∈ lw_all := lw_g (lw_at lw_m5 1 rfl) rfl
theorem q1111 : (Jvm.Cond.classLink "CoinJudge" (257 : Nat) "CoinJudge$Input") ∈ lw_all := lw_g (lw_at lw_m5 2 rfl) rfl
theorem q1112 : (Jvm.Cond.arrayOver (Jvm.ClassFile.FieldType.object "CoinJudge$Input")) ∈ lw_tbl := lw_at lw_m5 3 rfl
theorem q1113 : (Jvm.Cond.instantiable "CoinJudge$Input" (5 : Nat)) ∈ lw_all := lw_g (lw_at lw_m5 4 rfl) rfl
theorem q1114 : (Jvm.Cond.methodLinkNest "CoinJudge" (263 : Nat) ({ cls := "CoinJudge$Input", name := "<init>", desc := "()V" } : Jvm.MethodName) "CoinJudge") ∈ lw_tbl := lw_at lw_m5 5 rfl
theorem q1115 : (Jvm.Cond.instanceMethod ({ cls := "CoinJudge$Input", name := "<init>", desc := "()V" } : Jvm.MethodName)) ∈ lw_all := lw_g (lw_at lw_m5 6 rfl) rfl
theorem q1116 : (Jvm.Cond.code ({ cls := "CoinJudge$Input", name := "<init>", desc := "()V" } : Jvm.MethodName) prog_14_method_1_code (1 : Nat) (Option.none : Option Jvm.ClassFile.FieldType)) ∈ lw_all := lw_g (lw_at lw_m5 7 rfl) rfl
theorem q1117 : (Jvm.Cond.methodLink "CoinJudge$Input" (1 : Nat) ({ cls := "java/lang/Object", name := "<init>", desc := "()V" } : Jvm.MethodName)) ∈ lw_all := lw_g (lw_at lw_m5 8 rfl) rfl
theorem q1118 : (Jvm.Cond.fieldLinkNest "CoinJudge$Signing" (70 : Nat) "CoinJudge$Input" "txid" "I" "CoinJudge") ∈ lw_tbl := lw_at lw_m5 9 rfl
theorem q1119 : (Jvm.Cond.fieldLinkNest "CoinJudge" (270 : Nat) "CoinJudge$Input" "txid" "I" "CoinJudge") ∈ lw_tbl := lw_at lw_m5 10 rfl
theorem q1120 : (Jvm.Cond.fieldLinkNest "CoinJudge$Signing" (79 : Nat) "CoinJudge$Input" "index" "I" "CoinJudge") ∈ lw_tbl := lw_at lw_m5 11 rfl
theorem q1121 : (Jvm.Cond.fieldLinkNest "CoinJudge" (273 : Nat) "CoinJudge$Input" "index" "I" "CoinJudge") ∈ lw_tbl := lw_at lw_m5 12 rfl
theorem q1122 : (Jvm.Cond.fieldLinkNest "CoinJudge" (276 : Nat) "CoinJudge$Input" "script" "I" "CoinJudge") ∈ lw_tbl := lw_at lw_m5 13 rfl
theorem q1123 : (Jvm.Cond.fieldLinkNest "CoinJudge" (279 : Nat) "CoinJudge$Input" "scriptSize" "I" "CoinJudge") ∈ lw_tbl := lw_at lw_m5 14 rfl
theorem q1124 : (Jvm.Cond.fieldLinkNest "CoinJudge$Signing" (85 : Nat) "CoinJudge$Input" "sequence" "J" "CoinJudge") ∈ lw_tbl := lw_at lw_m5 15 rfl
theorem q1125 : (Jvm.Cond.fieldLinkNest "CoinJudge" (282 : Nat) "CoinJudge$Input" "sequence" "J" "CoinJudge") ∈ lw_tbl := lw_at lw_m5 16 rfl
theorem q1126 : (Jvm.Cond.lays "CoinJudge$Input" "CoinJudge$Input" "txid" "I") ∈ lw_all := lw_g (lw_at lw_m5 17 rfl) rfl
theorem q1127 : (Jvm.Cond.soleField "CoinJudge$Input" "txid") ∈ lw_all := lw_g (lw_at lw_m5 18 rfl) rfl
theorem q1128 : (Jvm.Cond.lays "CoinJudge$Input" "CoinJudge$Input" "index" "I") ∈ lw_all := lw_g (lw_at lw_m5 19 rfl) rfl
theorem q1129 : (Jvm.Cond.soleField "CoinJudge$Input" "index") ∈ lw_all := lw_g (lw_at lw_m5 20 rfl) rfl
theorem q1130 : (Jvm.Cond.lays "CoinJudge$Input" "CoinJudge$Input" "script" "I") ∈ lw_all := lw_g (lw_at lw_m5 21 rfl) rfl
theorem q1131 : (Jvm.Cond.soleField "CoinJudge$Input" "script") ∈ lw_all := lw_g (lw_at lw_m5 22 rfl) rfl
theorem q1132 : (Jvm.Cond.lays "CoinJudge$Input" "CoinJudge$Input" "scriptSize" "I") ∈ lw_all := lw_g (lw_at lw_m5 23 rfl) rfl
theorem q1133 : (Jvm.Cond.soleField "CoinJudge$Input" "scriptSize") ∈ lw_all := lw_g (lw_at lw_m5 24 rfl) rfl
theorem q1134 : (Jvm.Cond.lays "CoinJudge$Input" "CoinJudge$Input" "sequence" "J") ∈ lw_all := lw_g (lw_at lw_m5 25 rfl) rfl
theorem q1135 : (Jvm.Cond.soleField "CoinJudge$Input" "sequence") ∈ lw_all := lw_g (lw_at lw_m5 26 rfl) rfl
theorem q1136 : (Jvm.Cond.superclass "CoinJudge$Input" "java/lang/Object") ∈ lw_all := lw_g (lw_at lw_m5 27 rfl) rfl
theorem q1137 : (Jvm.Cond.constantLong "CoinJudge" (264 : Nat) (32 : Int64)) ∈ lw_all := lw_g (lw_at lw_m5 28 rfl) rfl
theorem q1138 : (Jvm.Cond.constantLong "CoinJudge" (285 : Nat) (180 : Int64)) ∈ lw_all := lw_g (lw_at lw_m5 29 rfl) rfl
theorem q1139 : (Jvm.Cond.classLink "CoinJudge" (287 : Nat) "CoinJudge$Output") ∈ lw_all := lw_g (lw_at lw_m5 30 rfl) rfl
theorem q1140 : (Jvm.Cond.arrayOver (Jvm.ClassFile.FieldType.object "CoinJudge$Output")) ∈ lw_tbl := lw_at lw_m5 31 rfl
theorem q1141 : (Jvm.Cond.instantiable "CoinJudge$Output" (3 : Nat)) ∈ lw_all := lw_g (lw_at lw_m5 32 rfl) rfl
theorem q1142 : (Jvm.Cond.methodLinkNest "CoinJudge" (293 : Nat) ({ cls := "CoinJudge$Output", name := "<init>", desc := "()V" } : Jvm.MethodName) "CoinJudge") ∈ lw_tbl := lw_at lw_m5 33 rfl
theorem q1143 : (Jvm.Cond.instanceMethod ({ cls := "CoinJudge$Output", name := "<init>", desc := "()V" } : Jvm.MethodName)) ∈ lw_all := lw_g (lw_at lw_m5 34 rfl) rfl
theorem q1144 : (Jvm.Cond.code ({ cls := "CoinJudge$Output", name := "<init>", desc := "()V" } : Jvm.MethodName) prog_16_method_1_code (1 : Nat) (Option.none : Option Jvm.ClassFile.FieldType)) ∈ lw_all := lw_g (lw_at lw_m5 35 rfl) rfl
theorem q1145 : (Jvm.Cond.methodLink "CoinJudge$Output" (1 : Nat) ({ cls := "java/lang/Object", name := "<init>", desc := "()V" } : Jvm.MethodName)) ∈ lw_all := lw_g (lw_at lw_m5 36 rfl) rfl
theorem q1146 : (Jvm.Cond.fieldLinkNest "CoinJudge$Coins" (48 : Nat) "CoinJudge$Output" "value" "J" "CoinJudge") ∈ lw_tbl := lw_at lw_m5 37 rfl
theorem q1147 : (Jvm.Cond.fieldLinkNest "CoinJudge$Signing" (90 : Nat) "CoinJudge$Output" "value" "J" "CoinJudge") ∈ lw_tbl := lw_at lw_m5 38 rfl
theorem q1148 : (Jvm.Cond.fieldLinkNest "CoinJudge" (294 : Nat) "CoinJudge$Output" "value" "J" "CoinJudge") ∈ lw_tbl := lw_at lw_m5 39 rfl
theorem q1149 : (Jvm.Cond.fieldLinkNest "CoinJudge$Signing" (98 : Nat) "CoinJudge$Output" "script" "I" "CoinJudge") ∈ lw_tbl := lw_at lw_m5 40 rfl
theorem q1150 : (Jvm.Cond.fieldLinkNest "CoinJudge" (297 : Nat) "CoinJudge$Output" "script" "I" "CoinJudge") ∈ lw_tbl := lw_at lw_m5 41 rfl
theorem q1151 : (Jvm.Cond.fieldLinkNest "CoinJudge$Signing" (95 : Nat) "CoinJudge$Output" "scriptSize" "I" "CoinJudge") ∈ lw_tbl := lw_at lw_m5 42 rfl
theorem q1152 : (Jvm.Cond.fieldLinkNest "CoinJudge" (298 : Nat) "CoinJudge$Output" "scriptSize" "I" "CoinJudge") ∈ lw_tbl := lw_at lw_m5 43 rfl
theorem q1153 : (Jvm.Cond.lays "CoinJudge$Output" "CoinJudge$Output" "value" "J") ∈ lw_all := lw_g (lw_at lw_m5 44 rfl) rfl
theorem q1154 : (Jvm.Cond.soleField "CoinJudge$Output" "value") ∈ lw_all := lw_g (lw_at lw_m5 45 rfl) rfl
theorem q1155 : (Jvm.Cond.lays "CoinJudge$Output" "CoinJudge$Output" "script" "I") ∈ lw_all := lw_g (lw_at lw_m5 46 rfl) rfl
theorem q1156 : (Jvm.Cond.soleField "CoinJudge$Output" "script") ∈ lw_all := lw_g (lw_at lw_m5 47 rfl) rfl
theorem q1157 : (Jvm.Cond.lays "CoinJudge$Output" "CoinJudge$Output" "scriptSize" "I") ∈ lw_all := lw_g (lw_at lw_m5 48 rfl) rfl
theorem q1158 : (Jvm.Cond.soleField "CoinJudge$Output" "scriptSize") ∈ lw_all := lw_g (lw_at lw_m5 49 rfl) rfl
theorem q1159 : (Jvm.Cond.superclass "CoinJudge$Output" "java/lang/Object") ∈ lw_all := lw_g (lw_at lw_m5 50 rfl) rfl
theorem q1160 : (Jvm.Cond.methodLink "CoinJudge" (334 : Nat) ({ cls := "CoinJudge$Source", name := "ended", desc := "()Z" } : Jvm.MethodName)) ∈ lw_all := lw_g (lw_at lw_m5 51 rfl) rfl
theorem q1161 : (Jvm.Cond.instanceMethod ({ cls := "CoinJudge$Source", name := "ended", desc := "()Z" } : Jvm.MethodName)) ∈ lw_all := lw_g (lw_at lw_m5 52 rfl) rfl
theorem q1162 : (Jvm.Cond.selects "CoinJudge$Source" ({ cls := "CoinJudge$Source", name := "ended", desc := "()Z" } : Jvm.MethodName) ({ cls := "CoinJudge$Source", name := "ended", desc := "()Z" } : Jvm.MethodName)) ∈ lw_all := lw_g (lw_at lw_m5 53 rfl) rfl
theorem q1163 : (Jvm.Cond.code ({ cls := "CoinJudge$Source", name := "ended", desc := "()Z" } : Jvm.MethodName) prog_23_method_3_code (1 : Nat) (Option.some Jvm.ClassFile.FieldType.boolean)) ∈ lw_all := lw_g (lw_at lw_m5 54 rfl) rfl
theorem q1164 : (Jvm.Cond.methodLink "CoinJudge" (134 : Nat) ({ cls := "CoinJudge", name := "workOf", desc := "(I)LCoinJudge$Big;" } : Jvm.MethodName)) ∈ lw_all := lw_g (lw_at lw_m5 55 rfl) rfl
theorem q1165 : (Jvm.Cond.privateMethod ({ cls := "CoinJudge", name := "workOf", desc := "(I)LCoinJudge$Big;" } : Jvm.MethodName)) ∈ lw_tbl := lw_at lw_m5 56 rfl
theorem q1166 : (Jvm.Cond.instanceMethod ({ cls := "CoinJudge", name := "workOf", desc := "(I)LCoinJudge$Big;" } : Jvm.MethodName)) ∈ lw_all := lw_g (lw_at lw_m5 57 rfl) rfl
theorem q1167 : (Jvm.Cond.code ({ cls := "CoinJudge", name := "workOf", desc := "(I)LCoinJudge$Big;" } : Jvm.MethodName) prog_1_method_4_code (6 : Nat) (Option.some (Jvm.ClassFile.FieldType.object "CoinJudge$Big"))) ∈ lw_all := lw_g (lw_at lw_m5 58 rfl) rfl
theorem q1168 : (Jvm.Cond.methodLink "CoinJudge" (189 : Nat) ({ cls := "CoinJudge$Big", name := "add", desc := "(LCoinJudge$Big;LCoinJudge$Big;)I" } : Jvm.MethodName)) ∈ lw_all := lw_g (lw_at lw_m5 59 rfl) rfl
theorem q1169 : (Jvm.Cond.instanceMethod ({ cls := "CoinJudge$Big", name := "add", desc := "(LCoinJudge$Big;LCoinJudge$Big;)I" } : Jvm.MethodName)) ∈ lw_all := lw_g (lw_at lw_m5 60 rfl) rfl
theorem q1170 : (Jvm.Cond.selects "CoinJudge$Big" ({ cls := "CoinJudge$Big", name := "add", desc := "(LCoinJudge$Big;LCoinJudge$Big;)I" } : Jvm.MethodName) ({ cls := "CoinJudge$Big", name := "add", desc := "(LCoinJudge$Big;LCoinJudge$Big;)I" } : Jvm.MethodName)) ∈ lw_all := lw_g (lw_at lw_m5 61 rfl) rfl
theorem q1171 : (Jvm.Cond.code ({ cls := "CoinJudge$Big", name := "add", desc := "(LCoinJudge$Big;LCoinJudge$Big;)I" } : Jvm.MethodName) prog_2_method_7_code (6 : Nat) (Option.some Jvm.ClassFile.FieldType.int)) ∈ lw_all := lw_g (lw_at lw_m5 62 rfl) rfl
theorem q1172 : (Jvm.Cond.methodLink "CoinJudge" (192 : Nat) ({ cls := "CoinJudge$Big", name := "divide", desc := "(LCoinJudge$Big;LCoinJudge$Big;)LCoinJudge$Big;" } : Jvm.MethodName)) ∈ lw_all := lw_g (lw_at lw_m5 63 rfl) rfl
theorem q1173 : (Jvm.Cond.instanceMethod ({ cls := "CoinJudge$Big", name := "divide", desc := "(LCoinJudge$Big;LCoinJudge$Big;)LCoinJudge$Big;" } : Jvm.MethodName)) ∈ lw_all := lw_g (lw_at lw_m5 64 rfl) rfl
theorem q1174 : (Jvm.Cond.selects "CoinJudge$Big" ({ cls := "CoinJudge$Big", name := "divide", desc := "(LCoinJudge$Big;LCoinJudge$Big;)LCoinJudge$Big;" } : Jvm.MethodName) ({ cls := "CoinJudge$Big", name := "divide", desc := "(LCoinJudge$Big;LCoinJudge$Big;)LCoinJudge$Big;" } : Jvm.MethodName)) ∈ lw_all := lw_g (lw_at lw_m5 65 rfl) rfl
theorem q1175 : (Jvm.Cond.code ({ cls := "CoinJudge$Big", name := "divide", desc := "(LCoinJudge$Big;LCoinJudge$Big;)LCoinJudge$Big;" } : Jvm.MethodName) prog_2_method_16_code (7 : Nat) (Option.some (Jvm.ClassFile.FieldType.object "CoinJudge$Big"))) ∈ lw_all := lw_g (lw_at lw_m5 66 rfl) rfl
theorem q1176 : (Jvm.Cond.classLink "CoinJudge$Big" (10 : Nat) "CoinJudge$Big") ∈ lw_all := lw_g (lw_at lw_m5 67 rfl) rfl
theorem q1177 : (Jvm.Cond.methodLink "CoinJudge$Big" (40 : Nat) ({ cls := "CoinJudge$Big", name := "<init>", desc := "()V" } : Jvm.MethodName)) ∈ lw_all := lw_g (lw_at lw_m5 68 rfl) rfl
theorem q1178 : (Jvm.Cond.methodLink "CoinJudge$Big" (41 : Nat) ({ cls := "CoinJudge$Big", name := "bit", desc := "(I)I" } : Jvm.MethodName)) ∈ lw_all := lw_g (lw_at lw_m5 69 rfl) rfl
theorem q1179 : (Jvm.Cond.instanceMethod ({ cls := "CoinJudge$Big", name := "bit", desc := "(I)I" } : Jvm.MethodName)) ∈ lw_all := lw_g (lw_at lw_m5 70 rfl) rfl
theorem q1180 : (Jvm.Cond.selects "CoinJudge$Big" ({ cls := "CoinJudge$Big", name := "bit", desc := "(I)I" } : Jvm.MethodName) ({ cls := "CoinJudge$Big", name := "bit", desc := "(I)I" } : Jvm.MethodName)) ∈ lw_all := lw_g (lw_at lw_m5 71 rfl) rfl
theorem q1181 : (Jvm.Cond.code ({ cls := "CoinJudge$Big", name := "bit", desc := "(I)I" } : Jvm.MethodName) prog_2_method_9_code (2 : Nat) (Option.some Jvm.ClassFile.FieldType.int)) ∈ lw_all := lw_g (lw_at lw_m5 72 rfl) rfl
theorem q1182 : (Jvm.Cond.methodLink "CoinJudge$Big" (44 : Nat) ({ cls := "CoinJudge$Big", name := "compare", desc := "(LCoinJudge$Big;)I" } : Jvm.MethodName)) ∈ lw_all := lw_g (lw_at lw_m5 73 rfl) rfl
theorem q1183 : (Jvm.Cond.methodLink "CoinJudge$Big" (48 : Nat) ({ cls := "CoinJudge$Big", name := "subtract", desc := "(LCoinJudge$Big;LCoinJudge$Big;)LCoinJudge$Big;" } : Jvm.MethodName)) ∈ lw_all := lw_g (lw_at lw_m5 74 rfl) rfl
theorem q1184 : (Jvm.Cond.methodLink "CoinJudge$Big" (52 : Nat) ({ cls := "CoinJudge$Big", name := "copy", desc := "(LCoinJudge$Big;)LCoinJudge$Big;" } : Jvm.MethodName)) ∈ lw_all := lw_g (lw_at lw_m5 75 rfl) rfl
theorem q1185 : (Jvm.Cond.instanceMethod ({ cls := "CoinJudge$Big", name := "copy", desc := "(LCoinJudge$Big;)LCoinJudge$Big;" } : Jvm.MethodName)) ∈ lw_all := lw_g (lw_at lw_m5 76 rfl) rfl
theorem q1186 : (Jvm.Cond.selects "CoinJudge$Big" ({ cls := "CoinJudge$Big", name := "copy", desc := "(LCoinJudge$Big;)LCoinJudge$Big;" } : Jvm.MethodName) ({ cls := "CoinJudge$Big", name := "copy", desc := "(LCoinJudge$Big;)LCoinJudge$Big;" } : Jvm.MethodName)) ∈ lw_all := lw_g (lw_at lw_m5 77 rfl) rfl
theorem q1187 : (Jvm.Cond.code ({ cls := "CoinJudge$Big", name := "copy", desc := "(LCoinJudge$Big;)LCoinJudge$Big;" } : Jvm.MethodName) prog_2_method_2_code (3 : Nat) (Option.some (Jvm.ClassFile.FieldType.object "CoinJudge$Big"))) ∈ lw_all := lw_g (lw_at lw_m5 78 rfl) rfl
theorem q1188 : (Jvm.Cond.methodLink "CoinJudge" (138 : Nat) ({ cls := "CoinJudge$Big", name := "copy", desc := "(LCoinJudge$Big;)LCoinJudge$Big;" } : Jvm.MethodName)) ∈ lw_all := lw_g (lw_at lw_m5 79 rfl) rfl
theorem q1189 : (Jvm.Cond.methodLink "CoinJudge" (142 : Nat) ({ cls := "CoinJudge", name := "keep", desc := "(LCoinJudge$Block;)V" } : Jvm.MethodName)) ∈ lw_all := lw_g (lw_at lw_m5 80 rfl) rfl
theorem q1190 : (Jvm.Cond.privateMethod ({ cls := "CoinJudge", name := "keep", desc := "(LCoinJudge$Block;)V" } : Jvm.MethodName)) ∈ lw_tbl := lw_at lw_m5 81 rfl
theorem q1191 : (Jvm.Cond.instanceMethod ({ cls := "CoinJudge", name := "keep", desc := "(LCoinJudge$Block;)V" } : Jvm.MethodName)) ∈ lw_all := lw_g (lw_at lw_m5 82 rfl) rfl
theorem q1192 : (Jvm.Cond.code ({ cls := "CoinJudge", name := "keep", desc := "(LCoinJudge$Block;)V" } : Jvm.MethodName) prog_1_method_12_code (3 : Nat) (Option.none : Option Jvm.ClassFile.FieldType)) ∈ lw_all := lw_g (lw_at lw_m5 83 rfl) rfl
theorem q1193 : (Jvm.Cond.methodLink "CoinJudge" (146 : Nat) ({ cls := "CoinJudge", name := "connect", desc := "(LCoinJudge$Block;)V" } : Jvm.MethodName)) ∈ lw_all := lw_g (lw_at lw_m5 84 rfl) rfl
theorem q1194 : (Jvm.Cond.privateMethod ({ cls := "CoinJudge", name := "connect", desc := "(LCoinJudge$Block;)V" } : Jvm.MethodName)) ∈ lw_tbl := lw_at lw_m5 85 rfl
theorem q1195 : (Jvm.Cond.instanceMethod ({ cls := "CoinJudge", name := "connect", desc := "(LCoinJudge$Block;)V" } : Jvm.MethodName)) ∈ lw_all := lw_g (lw_at lw_m5 86 rfl) rfl
theorem q1196 : (Jvm.Cond.codeWith ({ cls := "CoinJudge", name := "connect", desc := "(LCoinJudge$Block;)V" } : Jvm.MethodName) prog_1_method_24_code (11 : Nat) (Option.none : Option Jvm.ClassFile.FieldType) [((14 : Nat), (183 : Nat), (186 : Nat), (351 : Nat))]) ∈ lw_all := lw_g (lw_at lw_m5 87 rfl) rfl
theorem q1197 : (Jvm.Cond.classLink "CoinJudge" (351 : Nat) "CoinJudge$Refused") ∈ lw_all := lw_g (lw_at lw_m5 88 rfl) rfl
theorem q1198 : (Jvm.Cond.interfaceEntry "CoinJudge" (447 : Nat)) ∈ lw_tbl := lw_at lw_m5 89 rfl
theorem q1199 : (Jvm.Cond.methodLink "CoinJudge" (447 : Nat) ({ cls := "java/util/List", name := "clear", desc := "()V" } : Jvm.MethodName)) ∈ lw_all := lw_g (lw_at lw_m5 90 rfl) rfl
theorem q1200 : (Jvm.Cond.interfaceMethod "java/util/List" "java/util/List" "clear" "()V") ∈ lw_tbl := lw_at lw_m5 91 rfl
theorem q1201 : (Jvm.Cond.declares ({ cls := "java/util/List", name := "clear", desc := "()V" } : Jvm.MethodName)) ∈ lw_tbl := lw_at lw_m5 92 rfl
theorem q1202 : (Jvm.Cond.castable "java/util/ArrayList" "java/util/List") ∈ lw_tbl := lw_at lw_m5 93 rfl
theorem q1203 : (Jvm.Cond.selects "java/util/ArrayList" ({ cls := "java/util/List", name := "clear", desc := "()V" } : Jvm.MethodName) ({ cls := "java/util/ArrayList", name := "clear", desc := "()V" } : Jvm.MethodName)) ∈ lw_all := lw_g (lw_at lw_m5 94 rfl) rfl
theorem q1204 : (Jvm.Cond.unhidden "java/util/ArrayList" "clear" "()V") ∈ lw_tbl := lw_at lw_m5 95 rfl
theorem q1205 : (Jvm.Cond.instanceMethod ({ cls := "java/util/ArrayList", name := "clear", desc := "()V" } : Jvm.MethodName)) ∈ lw_all := lw_g (lw_at lw_m5 96 rfl) rfl
theorem q1206 : (Jvm.Cond.publicMethod ({ cls := "java/util/ArrayList", name := "clear", desc := "()V" } : Jvm.MethodName)) ∈ lw_tbl := lw_at lw_m5 97 rfl
theorem q1207 : (Jvm.Cond.code ({ cls := "java/util/ArrayList", name := "clear", desc := "()V" } : Jvm.MethodName) prog_52_method_40_code (4 : Nat) (Option.none : Option Jvm.ClassFile.FieldType)) ∈ lw_all := lw_g (lw_at lw_m5 98 rfl) rfl
theorem q1208 : (Jvm.Cond.methodLink "CoinJudge" (452 : Nat) ({ cls := "CoinJudge", name := "paid", desc := "(LCoinJudge$Block;LCoinJudge$Tx;)J" } : Jvm.MethodName)) ∈ lw_all := lw_g (lw_at lw_m5 99 rfl) rfl
theorem q1209 : (Jvm.Cond.privateMethod ({ cls := "CoinJudge", name := "paid", desc := "(LCoinJudge$Block;LCoinJudge$Tx;)J" } : Jvm.MethodName)) ∈ lw_tbl := lw_at lw_m5 100 rfl
theorem q1210 : (Jvm.Cond.instanceMethod ({ cls := "CoinJudge", name := "paid", desc := "(LCoinJudge$Block;LCoinJudge$Tx;)J" } : Jvm.MethodName)) ∈ lw_all := lw_g (lw_at lw_m5 101 rfl) rfl
theorem q1211 : (Jvm.Cond.code ({ cls := "CoinJudge", name := "paid", desc := "(LCoinJudge$Block;LCoinJudge$Tx;)J" } : Jvm.MethodName) prog_1_method_25_code (11 : Nat) (Option.some Jvm.ClassFile.FieldType.long)) ∈ lw_all := lw_g (lw_at lw_m5 102 rfl) rfl
theorem q1212 : (Jvm.Cond.methodLink "CoinJudge" (464 : Nat) ({ cls := "CoinJudge$Coins", name := "get", desc := "([BII)LCoinJudge$Coin;" } : Jvm.MethodName)) ∈ lw_all := lw_g (lw_at lw_m5 103 rfl) rfl
theorem q1213 : (Jvm.Cond.instanceMethod ({ cls := "CoinJudge$Coins", name := "get", desc := "([BII)LCoinJudge$Coin;" } : Jvm.MethodName)) ∈ lw_all := lw_g (lw_at lw_m5 104 rfl) rfl
theorem q1214 : (Jvm.Cond.selects "CoinJudge$Coins" ({ cls := "CoinJudge$Coins", name := "get", desc := "([BII)LCoinJudge$Coin;" } : Jvm.MethodName) ({ cls := "CoinJudge$Coins", name := "get", desc := "([BII)LCoinJudge$Coin;" } : Jvm.MethodName)) ∈ lw_all := lw_g (lw_at lw_m5 105 rfl) rfl
theorem q1215 : (Jvm.Cond.code ({ cls := "CoinJudge$Coins", name := "get", desc := "([BII)LCoinJudge$Coin;" } : Jvm.MethodName) prog_6_method_4_code (5 : Nat) (Option.some (Jvm.ClassFile.FieldType.object "CoinJudge$Coin"))) ∈ lw_all := lw_g (lw_at lw_m5 106 rfl) rfl
theorem q1216 : (Jvm.Cond.methodLink "CoinJudge$Coins" (33 : Nat) ({ cls := "CoinJudge$Coins", name := "find", desc := "([BII)I" } : Jvm.MethodName)) ∈ lw_all := lw_g (lw_at lw_m5 107 rfl) rfl
theorem q1217 : (Jvm.Cond.privateMethod ({ cls := "CoinJudge$Coins", name := "find", desc := "([BII)I" } : Jvm.MethodName)) ∈ lw_tbl := lw_at lw_m5 108 rfl
theorem q1218 : (Jvm.Cond.instanceMethod ({ cls := "CoinJudge$Coins", name := "find", desc := "([BII)I" } : Jvm.MethodName)) ∈ lw_all := lw_g (lw_at lw_m5 109 rfl) rfl
theorem q1219 : (Jvm.Cond.code ({ cls := "CoinJudge$Coins", name := "find", desc := "([BII)I" } : Jvm.MethodName) prog_6_method_3_code (5 : Nat) (Option.some Jvm.ClassFile.FieldType.int)) ∈ lw_all := lw_g (lw_at lw_m5 110 rfl) rfl
theorem q1220 : (Jvm.Cond.methodLink "CoinJudge$Coins" (15 : Nat) ({ cls := "CoinJudge$Coins", name := "start", desc := "([BII)I" } : Jvm.MethodName)) ∈ lw_all := lw_g (lw_at lw_m5 111 rfl) rfl
theorem q1221 : (Jvm.Cond.static ({ cls := "CoinJudge$Coins", name := "start", desc := "([BII)I" } : Jvm.MethodName)) ∈ lw_all := lw_g (lw_at lw_m5 112 rfl) rfl
theorem q1222 : (Jvm.Cond.code ({ cls := "CoinJudge$Coins", name := "start", desc := "([BII)I" } : Jvm.MethodName) prog_6_method_2_code (4 : Nat) (Option.some Jvm.ClassFile.FieldType.int)) ∈ lw_all := lw_g (lw_at lw_m5 113 rfl) rfl
theorem q1223 : (Jvm.Cond.methodLink "CoinJudge$Coins" (27 : Nat) ({ cls := "CoinJudge$Tx", name := "sameId", desc := "([BI)Z" } : Jvm.MethodName)) ∈ lw_all := lw_g (lw_at lw_m5 114 rfl) rfl
theorem q1224 : (Jvm.Cond.instanceMethod ({ cls := "CoinJudge$Tx", name := "sameId", desc := "([BI)Z" } : Jvm.MethodName)) ∈ lw_all := lw_g (lw_at lw_m5 115 rfl) rfl
theorem q1225 : (Jvm.Cond.selects "CoinJudge$Tx" ({ cls := "CoinJudge$Tx", name := "sameId", desc := "([BI)Z" } : Jvm.MethodName) ({ cls := "CoinJudge$Tx", name := "sameId", desc := "([BI)Z" } : Jvm.MethodName)) ∈ lw_all := lw_g (lw_at lw_m5 116 rfl) rfl
theorem q1226 : (Jvm.Cond.code ({ cls := "CoinJudge$Tx", name := "sameId", desc := "([BI)Z" } : Jvm.MethodName) prog_25_method_2_code (4 : Nat) (Option.some Jvm.ClassFile.FieldType.boolean)) ∈ lw_all := lw_g (lw_at lw_m5 117 rfl) rfl
theorem q1227 : (Jvm.Cond.methodLink "CoinJudge" (361 : Nat) ({ cls := "CoinJudge", name := "must", desc := "(ZI)V" } : Jvm.MethodName)) ∈ lw_all := lw_g (lw_at lw_m5 118 rfl) rfl
theorem q1228 : (Jvm.Cond.static ({ cls := "CoinJudge", name := "must", desc := "(ZI)V" } : Jvm.MethodName)) ∈ lw_all := lw_g (lw_at lw_m5 119 rfl) rfl
theorem q1229 : (Jvm.Cond.code ({ cls := "CoinJudge", name := "must", desc := "(ZI)V" } : Jvm.MethodName) prog_1_method_13_code (2 : Nat) (Option.none : Option Jvm.ClassFile.FieldType)) ∈ lw_all := lw_g (lw_at lw_m5 120 rfl) rfl
theorem q1230 : (Jvm.Cond.instantiable "CoinJudge$Refused" (7 : Nat)) ∈ lw_all := lw_g (lw_at lw_m5 121 rfl) rfl
theorem q1231 : (Jvm.Cond.castable "CoinJudge$Refused" "CoinJudge$Refused") ∈ lw_tbl := lw_at lw_m5 122 rfl
theorem q1232 : (Jvm.Cond.selects "CoinJudge$Refused" ({ cls := "java/lang/Throwable", name := "fillInStackTrace", desc := "(I)Ljava/lang/Throwable;" } : Jvm.MethodName) ({ cls := "java/lang/Throwable", name := "fillInStackTrace", desc := "(I)Ljava/lang/Throwable;" } : Jvm.MethodName)) ∈ lw_all := lw_g (lw_at lw_m5 123 rfl) rfl
theorem q1233 : (Jvm.Cond.lays "CoinJudge$Refused" "java/lang/Throwable" "cause" "Ljava/lang/Throwable;") ∈ lw_all := lw_g (lw_at lw_m5 124 rfl) rfl
theorem q1234 : (Jvm.Cond.lays "CoinJudge$Refused" "java/lang/Throwable" "stackTrace" "[Ljava/lang/StackTraceElement;") ∈ lw_all := lw_g (lw_at lw_m5 125 rfl) rfl
theorem q1235 : (Jvm.Cond.lays "CoinJudge$Refused" "java/lang/Throwable" "suppressedExceptions" "Ljava/util/List;") ∈ lw_all := lw_g (lw_at lw_m5 126 rfl) rfl
theorem q1236 : (Jvm.Cond.lays "CoinJudge$Refused" "java/lang/Throwable" "detailMessage" "Ljava/lang/String;") ∈ lw_all := lw_g (lw_at lw_m5 127 rfl) rfl
theorem q1237 : (Jvm.Cond.lays "CoinJudge$Refused" "java/lang/Throwable" "backtrace" "Ljava/lang/Object;") ∈ lw_all := lw_g (lw_at lw_m5 128 rfl) rfl
theorem q1238 : (Jvm.Cond.methodLink "CoinJudge" (353 : Nat) ({ cls := "CoinJudge$Refused", name := "<init>", desc := "(I)V" } : Jvm.MethodName)) ∈ lw_all := lw_g (lw_at lw_m5 129 rfl) rfl
theorem q1239 : (Jvm.Cond.instanceMethod ({ cls := "CoinJudge$Refused", name := "<init>", desc := "(I)V" } : Jvm.MethodName)) ∈ lw_all := lw_g (lw_at lw_m5 130 rfl) rfl
theorem q1240 : (Jvm.Cond.code ({ cls := "CoinJudge$Refused", name := "<init>", desc := "(I)V" } : Jvm.MethodName) prog_18_method_1_code (2 : Nat) (Option.none : Option Jvm.ClassFile.FieldType)) ∈ lw_all := lw_g (lw_at lw_m5 131 rfl) rfl
theorem q1241 : (Jvm.Cond.methodLink "CoinJudge$Refused" (1 : Nat) ({ cls := "java/lang/RuntimeException", name := "<init>", desc := "()V" } : Jvm.MethodName)) ∈ lw_all := lw_g (lw_at lw_m5 132 rfl) rfl
theorem q1242 : (Jvm.Cond.fieldLink "CoinJudge$Refused" (7 : Nat) "CoinJudge$Refused" "why" "I") ∈ lw_all := lw_g (lw_at lw_m5 133 rfl) rfl
theorem q1243 : (Jvm.Cond.laysFinal "CoinJudge$Refused" "CoinJudge$Refused" "why" "I") ∈ lw_all := lw_g (lw_at lw_m5 134 rfl) rfl
theorem q1244 : (Jvm.Cond.soleField "CoinJudge$Refused" "why") ∈ lw_all := lw_g (lw_at lw_m5 135 rfl) rfl
theorem q1245 : (Jvm.Cond.lays "CoinJudge$Refused" "java/lang/Throwable" "depth" "I") ∈ lw_all := lw_g (lw_at lw_m5 136 rfl) rfl
theorem q1246 : (Jvm.Cond.superclass "CoinJudge$Refused" "java/lang/RuntimeException") ∈ lw_all := lw_g (lw_at lw_m5 137 rfl) rfl
theorem q1247 : (Jvm.Cond.methodLink "CoinJudge" (468 : Nat) ({ cls := "CoinJudge$Coin", name := "coinbase", desc := "()Z" } : Jvm.MethodName)) ∈ lw_all := lw_g (lw_at lw_m5 138 rfl) rfl
theorem q1248 : (Jvm.Cond.instanceMethod ({ cls := "CoinJudge$Coin", name := "coinbase", desc := "()Z" } : Jvm.MethodName)) ∈ lw_all := lw_g (lw_at lw_m5 139 rfl) rfl
theorem q1249 : (Jvm.Cond.selects "CoinJudge$Coin" ({ cls := "CoinJudge$Coin", name := "coinbase", desc := "()Z" } : Jvm.MethodName) ({ cls := "CoinJudge$Coin", name := "coinbase", desc := "()Z" } : Jvm.MethodName)) ∈ lw_all := lw_g (lw_at lw_m5 140 rfl) rfl
theorem q1250 : (Jvm.Cond.code ({ cls := "CoinJudge$Coin", name := "coinbase", desc := "()Z" } : Jvm.MethodName) prog_5_method_3_code (1 : Nat) (Option.some Jvm.ClassFile.FieldType.boolean)) ∈ lw_all := lw_g (lw_at lw_m5 141 rfl) rfl
theorem q1251 : (Jvm.Cond.methodLink "CoinJudge" (476 : Nat) ({ cls := "CoinJudge$Coin", name := "output", desc := "()LCoinJudge$Output;" } : Jvm.MethodName)) ∈ lw_all := lw_g (lw_at lw_m5 142 rfl) rfl
theorem q1252 : (Jvm.Cond.instanceMethod ({ cls := "CoinJudge$Coin", name := "output", desc := "()LCoinJudge$Output;" } : Jvm.MethodName)) ∈ lw_all := lw_g (lw_at lw_m5 143 rfl) rfl
theorem q1253 : (Jvm.Cond.selects "CoinJudge$Coin" ({ cls := "CoinJudge$Coin", name := "output", desc := "()LCoinJudge$Output;" } : Jvm.MethodName) ({ cls := "CoinJudge$Coin", name := "output", desc := "()LCoinJudge$Output;" } : Jvm.MethodName)) ∈ lw_all := lw_g (lw_at lw_m5 144 rfl) rfl
theorem q1254 : (Jvm.Cond.code ({ cls := "CoinJudge$Coin", name := "output", desc := "()LCoinJudge$Output;" } : Jvm.MethodName) prog_5_method_2_code (1 : Nat) (Option.some (Jvm.ClassFile.FieldType.object "CoinJudge$Output"))) ∈ lw_all := lw_g (lw_at lw_m5 145 rfl) rfl
theorem q1255 : (Jvm.Cond.constantLong "CoinJudge" (385 : Nat) (2100000000000000 : Int64)) ∈ lw_all := lw_g (lw_at lw_m5 146 rfl) rfl
theorem q1256 : (Jvm.Cond.methodLink "CoinJudge" (479 : Nat) ({ cls := "CoinJudge$Signing", name := "of", desc := "([BLCoinJudge$Tx;I)V" } : Jvm.MethodName)) ∈ lw_all := lw_g (lw_at lw_m5 147 rfl) rfl
theorem q1257 : (Jvm.Cond.instanceMethod ({ cls := "CoinJudge$Signing", name := "of", desc := "([BLCoinJudge$Tx;I)V" } : Jvm.MethodName)) ∈ lw_all := lw_g (lw_at lw_m5 148 rfl) rfl
theorem q1258 : (Jvm.Cond.selects "CoinJudge$Signing" ({ cls := "CoinJudge$Signing", name := "of", desc := "([BLCoinJudge$Tx;I)V" } : Jvm.MethodName) ({ cls := "CoinJudge$Signing", name := "of", desc := "([BLCoinJudge$Tx;I)V" } : Jvm.MethodName)) ∈ lw_all := lw_g (lw_at lw_m5 149 rfl) rfl
theorem q1259 : (Jvm.Cond.code ({ cls := "CoinJudge$Signing", name := "of", desc := "([BLCoinJudge$Tx;I)V" } : Jvm.MethodName) prog_21_method_2_code (4 : Nat) (Option.none : Option Jvm.ClassFile.FieldType)) ∈ lw_all := lw_g (lw_at lw_m5 150 rfl) rfl
theorem q1260 : (Jvm.Cond.methodLink "CoinJudge" (483 : Nat) ({ cls := "CoinJudge$Machine", name := "unlocks", desc := "([BII[BIILCoinJudge$Signed;)Z" } : Jvm.MethodName)) ∈ lw_all := lw_g (lw_at lw_m5 151 rfl) rfl
theorem q1261 : (Jvm.Cond.instanceMethod ({ cls := "CoinJudge$Machine", name := "unlocks", desc := "([BII[BIILCoinJudge$Signed;)Z" } : Jvm.MethodName)) ∈ lw_all := lw_g (lw_at lw_m5 152 rfl) rfl
theorem q1262 : (Jvm.Cond.selects "CoinJudge$Machine" ({ cls := "CoinJudge$Machine", name := "unlocks", desc := "([BII[BIILCoinJudge$Signed;)Z" } : Jvm.MethodName) ({ cls := "CoinJudge$Machine", name := "unlocks", desc := "([BII[BIILCoinJudge$Signed;)Z" } : Jvm.MethodName)) ∈ lw_all := lw_g (lw_at lw_m5 153 rfl) rfl
theorem q1263 : (Jvm.Cond.codeWith ({ cls := "CoinJudge$Machine", name := "unlocks", desc := "([BII[BIILCoinJudge$Signed;)Z" } : Jvm.MethodName) prog_15_method_9_code (12 : Nat) (Option.some Jvm.ClassFile.FieldType.boolean) [((5 : Nat), (105 : Nat), (342 : Nat), (52 : Nat)), ((106 : Nat), (171 : Nat), (342 : Nat), (52 : Nat)), ((172 : Nat), (341 : Nat), (342 : Nat), (52 : Nat))]) ∈ lw_all := lw_g (lw_at lw_m5 154 rfl) rfl
theorem q1264 : (Jvm.Cond.classLink "CoinJudge$Machine" (52 : Nat) "CoinJudge$Broken") ∈ lw_all := lw_g (lw_at lw_m5 155 rfl) rfl
theorem q1265 : (Jvm.Cond.methodLink "CoinJudge$Machine" (76 : Nat) ({ cls := "CoinJudge$Machine", name := "run", desc := "([BIILCoinJudge$Signed;)V" } : Jvm.MethodName)) ∈ lw_all := lw_g (lw_at lw_m5 156 rfl) rfl
theorem q1266 : (Jvm.Cond.privateMethod ({ cls := "CoinJudge$Machine", name := "run", desc := "([BIILCoinJudge$Signed;)V" } : Jvm.MethodName)) ∈ lw_tbl := lw_at lw_m5 157 rfl
theorem q1267 : (Jvm.Cond.instanceMethod ({ cls := "CoinJudge$Machine", name := "run", desc := "([BIILCoinJudge$Signed;)V" } : Jvm.MethodName)) ∈ lw_all := lw_g (lw_at lw_m5 158 rfl) rfl
theorem q1268 : (Jvm.Cond.code ({ cls := "CoinJudge$Machine", name := "run", desc := "([BIILCoinJudge$Signed;)V" } : Jvm.MethodName) prog_15_method_14_code (14 : Nat) (Option.none : Option Jvm.ClassFile.FieldType)) ∈ lw_all := lw_g (lw_at lw_m5 159 rfl) rfl
theorem q1269 : (Jvm.Cond.methodLink "CoinJudge$Machine" (99 : Nat) ({ cls := "CoinJudge$Machine", name := "length", desc := "([BII)I" } : Jvm.MethodName)) ∈ lw_all := lw_g (lw_at lw_m5 160 rfl) rfl
theorem q1270 : (Jvm.Cond.static ({ cls := "CoinJudge$Machine", name := "length", desc := "([BII)I" } : Jvm.MethodName)) ∈ lw_all := lw_g (lw_at lw_m5 161 rfl) rfl
theorem q1271 : (Jvm.Cond.code ({ cls := "CoinJudge$Machine", name := "length", desc := "([BII)I" } : Jvm.MethodName) prog_15_method_10_code (7 : Nat) (Option.some Jvm.ClassFile.FieldType.int)) ∈ lw_all := lw_g (lw_at lw_m5 162 rfl) rfl
theorem q1272 : (Jvm.Cond.methodLink "CoinJudge$Machine" (91 : Nat) ({ cls := "CoinJudge$Machine", name := "need", desc := "(Z)V" } : Jvm.MethodName)) ∈ lw_all := lw_g (lw_at lw_m5 163 rfl) rfl
theorem q1273 : (Jvm.Cond.privateMethod ({ cls := "CoinJudge$Machine", name := "need", desc := "(Z)V" } : Jvm.MethodName)) ∈ lw_tbl := lw_at lw_m5 164 rfl
theorem q1274 : (Jvm.Cond.instanceMethod ({ cls := "CoinJudge$Machine", name := "need", desc := "(Z)V" } : Jvm.MethodName)) ∈ lw_all := lw_g (lw_at lw_m5 165 rfl) rfl
theorem q1275 : (Jvm.Cond.code ({ cls := "CoinJudge$Machine", name := "need", desc := "(Z)V" } : Jvm.MethodName) prog_15_method_8_code (2 : Nat) (Option.none : Option Jvm.ClassFile.FieldType)) ∈ lw_all := lw_g (lw_at lw_m5 166 rfl) rfl
theorem q1276 : (Jvm.Cond.methodLinkNest "CoinJudge$Machine" (54 : Nat) ({ cls := "CoinJudge$Broken", name := "<init>", desc := "()V" } : Jvm.MethodName) "CoinJudge") ∈ lw_tbl := lw_at lw_m5 167 rfl
theorem q1277 : (Jvm.Cond.methodLink "CoinJudge$Machine" (106 : Nat) ({ cls := "CoinJudge$Machine", name := "never", desc := "(I)Z" } : Jvm.MethodName)) ∈ lw_all := lw_g (lw_at lw_m5 168 rfl) rfl
theorem q1278 : (Jvm.Cond.static ({ cls := "CoinJudge$Machine", name := "never", desc := "(I)Z" } : Jvm.MethodName)) ∈ lw_all := lw_g (lw_at lw_m5 169 rfl) rfl
theorem q1279 : (Jvm.Cond.code ({ cls := "CoinJudge$Machine", name := "never", desc := "(I)Z" } : Jvm.MethodName) prog_15_method_13_code (1 : Nat) (Option.some Jvm.ClassFile.FieldType.boolean)) ∈ lw_all := lw_g (lw_at lw_m5 170 rfl) rfl
theorem q1280 : (Jvm.Cond.methodLink "CoinJudge$Machine" (62 : Nat) ({ cls := "CoinJudge$Machine", name := "push", desc := "()LCoinJudge$Element;" } : Jvm.MethodName)) ∈ lw_all := lw_g (lw_at lw_m5 171 rfl) rfl
theorem q1281 : (Jvm.Cond.privateMethod ({ cls := "CoinJudge$Machine", name := "push", desc := "()LCoinJudge$Element;" } : Jvm.MethodName)) ∈ lw_tbl := lw_at lw_m5 172 rfl
theorem q1282 : (Jvm.Cond.instanceMethod ({ cls := "CoinJudge$Machine", name := "push", desc := "()LCoinJudge$Element;" } : Jvm.MethodName)) ∈ lw_all := lw_g (lw_at lw_m5 173 rfl) rfl
theorem q1283 : (Jvm.Cond.code ({ cls := "CoinJudge$Machine", name := "push", desc := "()LCoinJudge$Element;" } : Jvm.MethodName) prog_15_method_3_code (1 : Nat) (Option.some (Jvm.ClassFile.FieldType.object "CoinJudge$Element"))) ∈ lw_all := lw_g (lw_at lw_m5 174 rfl) rfl
theorem q1284 : (Jvm.Cond.methodLink "CoinJudge$Machine" (55 : Nat) ({ cls := "CoinJudge$Machine", name := "at", desc := "([LCoinJudge$Element;I)LCoinJudge$Element;" } : Jvm.MethodName)) ∈ lw_all := lw_g (lw_at lw_m5 175 rfl) rfl
theorem q1285 : (Jvm.Cond.static ({ cls := "CoinJudge$Machine", name := "at", desc := "([LCoinJudge$Element;I)LCoinJudge$Element;" } : Jvm.MethodName)) ∈ lw_all := lw_g (lw_at lw_m5 176 rfl) rfl
theorem q1286 : (Jvm.Cond.code ({ cls := "CoinJudge$Machine", name := "at", desc := "([LCoinJudge$Element;I)LCoinJudge$Element;" } : Jvm.MethodName) prog_15_method_2_code (2 : Nat) (Option.some (Jvm.ClassFile.FieldType.object "CoinJudge$Element"))) ∈ lw_all := lw_g (lw_at lw_m5 177 rfl) rfl
theorem q1287 : (Jvm.Cond.instantiable "CoinJudge$Element" (2 : Nat)) ∈ lw_all := lw_g (lw_at lw_m5 178 rfl) rfl
theorem q1288 : (Jvm.Cond.methodLinkNest "CoinJudge$Machine" (44 : Nat) ({ cls := "CoinJudge$Element", name := "<init>", desc := "()V" } : Jvm.MethodName) "CoinJudge") ∈ lw_tbl := lw_at lw_m5 179 rfl
theorem q1289 : (Jvm.Cond.instanceMethod ({ cls := "CoinJudge$Element", name := "<init>", desc := "()V" } : Jvm.MethodName)) ∈ lw_all := lw_g (lw_at lw_m5 180 rfl) rfl
theorem q1290 : (Jvm.Cond.code ({ cls := "CoinJudge$Element", name := "<init>", desc := "()V" } : Jvm.MethodName) prog_13_method_1_code (1 : Nat) (Option.none : Option Jvm.ClassFile.FieldType)) ∈ lw_all := lw_g (lw_at lw_m5 181 rfl) rfl
theorem q1291 : (Jvm.Cond.methodLink "CoinJudge$Element" (1 : Nat) ({ cls := "java/lang/Object", name := "<init>", desc := "()V" } : Jvm.MethodName)) ∈ lw_all := lw_g (lw_at lw_m5 182 rfl) rfl
theorem q1292 : (Jvm.Cond.fieldLink "CoinJudge$Element" (7 : Nat) "CoinJudge$Element" "bytes" "[B") ∈ lw_all := lw_g (lw_at lw_m5 183 rfl) rfl
theorem q1293 : (Jvm.Cond.fieldLinkNest "CoinJudge$Machine" (66 : Nat) "CoinJudge$Element" "bytes" "[B" "CoinJudge") ∈ lw_tbl := lw_at lw_m5 184 rfl
theorem q1294 : (Jvm.Cond.fieldLinkNest "CoinJudge$Signing" (119 : Nat) "CoinJudge$Element" "bytes" "[B" "CoinJudge") ∈ lw_tbl := lw_at lw_m5 185 rfl
theorem q1295 : (Jvm.Cond.fieldLink "CoinJudge$Element" (13 : Nat) "CoinJudge$Element" "size" "I") ∈ lw_all := lw_g (lw_at lw_m5 186 rfl) rfl
theorem q1296 : (Jvm.Cond.fieldLinkNest "CoinJudge$Machine" (69 : Nat) "CoinJudge$Element" "size" "I" "CoinJudge") ∈ lw_tbl := lw_at lw_m5 187 rfl
theorem q1297 : (Jvm.Cond.fieldLinkNest "CoinJudge$Signing" (122 : Nat) "CoinJudge$Element" "size" "I" "CoinJudge") ∈ lw_tbl := lw_at lw_m5 188 rfl
theorem q1298 : (Jvm.Cond.laysFinal "CoinJudge$Element" "CoinJudge$Element" "bytes" "[B") ∈ lw_all := lw_g (lw_at lw_m5 189 rfl) rfl
theorem q1299 : (Jvm.Cond.soleField "CoinJudge$Element" "bytes") ∈ lw_all := lw_g (lw_at lw_m5 190 rfl) rfl
theorem q1300 : (Jvm.Cond.lays "CoinJudge$Element" "CoinJudge$Element" "size" "I") ∈ lw_all := lw_g (lw_at lw_m5 191 rfl) rfl
theorem q1301 : (Jvm.Cond.soleField "CoinJudge$Element" "size") ∈ lw_all := lw_g (lw_at lw_m5 192 rfl) rfl
theorem q1302 : (Jvm.Cond.superclass "CoinJudge$Element" "java/lang/Object") ∈ lw_all := lw_g (lw_at lw_m5 193 rfl) rfl
theorem q1303 : (Jvm.Cond.methodLink "CoinJudge$Machine" (72 : Nat) ({ cls := "CoinJudge$Element", name := "set", desc := "([BII)LCoinJudge$Element;" } : Jvm.MethodName)) ∈ lw_all := lw_g (lw_at lw_m5 194 rfl) rfl
theorem q1304 : (Jvm.Cond.instanceMethod ({ cls := "CoinJudge$Element", name := "set", desc := "([BII)LCoinJudge$Element;" } : Jvm.MethodName)) ∈ lw_all := lw_g (lw_at lw_m5 195 rfl) rfl
theorem q1305 : (Jvm.Cond.selects "CoinJudge$Element" ({ cls := "CoinJudge$Element", name := "set", desc := "([BII)LCoinJudge$Element;" } : Jvm.MethodName) ({ cls := "CoinJudge$Element", name := "set", desc := "([BII)LCoinJudge$Element;" } : Jvm.MethodName)) ∈ lw_all := lw_g (lw_at lw_m5 196 rfl) rfl
theorem q1306 : (Jvm.Cond.code ({ cls := "CoinJudge$Element", name := "set", desc := "([BII)LCoinJudge$Element;" } : Jvm.MethodName) prog_13_method_2_code (5 : Nat) (Option.some (Jvm.ClassFile.FieldType.object "CoinJudge$Element"))) ∈ lw_all := lw_g (lw_at lw_m5 197 rfl) rfl
theorem q1307 : (Jvm.Cond.methodLink "CoinJudge$Machine" (110 : Nat) ({ cls := "CoinJudge$Machine", name := "branch", desc := "(IZ)V" } : Jvm.MethodName)) ∈ lw_all := lw_g (lw_at lw_m5 198 rfl) rfl
theorem q1308 : (Jvm.Cond.privateMethod ({ cls := "CoinJudge$Machine", name := "branch", desc := "(IZ)V" } : Jvm.MethodName)) ∈ lw_tbl := lw_at lw_m5 199 rfl
theorem q1309 : (Jvm.Cond.instanceMethod ({ cls := "CoinJudge$Machine", name := "branch", desc := "(IZ)V" } : Jvm.MethodName)) ∈ lw_all := lw_g (lw_at lw_m5 200 rfl) rfl
theorem q1310 : (Jvm.Cond.code ({ cls := "CoinJudge$Machine", name := "branch", desc := "(IZ)V" } : Jvm.MethodName) prog_15_method_15_code (4 : Nat) (Option.none : Option Jvm.ClassFile.FieldType)) ∈ lw_all := lw_g (lw_at lw_m5 201 rfl) rfl
theorem q1311 : (Jvm.Cond.methodLink "CoinJudge$Machine" (59 : Nat) ({ cls := "CoinJudge$Machine", name := "top", desc := "(I)LCoinJudge$Element;" } : Jvm.MethodName)) ∈ lw_all := lw_g (lw_at lw_m5 202 rfl) rfl
theorem q1312 : (Jvm.Cond.privateMethod ({ cls := "CoinJudge$Machine", name := "top", desc := "(I)LCoinJudge$Element;" } : Jvm.MethodName)) ∈ lw_tbl := lw_at lw_m5 203 rfl
theorem q1313 : (Jvm.Cond.instanceMethod ({ cls := "CoinJudge$Machine", name := "top", desc := "(I)LCoinJudge$Element;" } : Jvm.MethodName)) ∈ lw_all := lw_g (lw_at lw_m5 204 rfl) rfl
theorem q1314 : (Jvm.Cond.code ({ cls := "CoinJudge$Machine", name := "top", desc := "(I)LCoinJudge$Element;" } : Jvm.MethodName) prog_15_method_4_code (2 : Nat) (Option.some (Jvm.ClassFile.FieldType.object "CoinJudge$Element"))) ∈ lw_all := lw_g (lw_at lw_m5 205 rfl) rfl
theorem q1315 : (Jvm.Cond.methodLink "CoinJudge$Machine" (83 : Nat) ({ cls := "CoinJudge$Element", name := "isTrue", desc := "()Z" } : Jvm.MethodName)) ∈ lw_all := lw_g (lw_at lw_m5 206 rfl) rfl
theorem q1316 : (Jvm.Cond.instanceMethod ({ cls := "CoinJudge$Element", name := "isTrue", desc := "()Z" } : Jvm.MethodName)) ∈ lw_all := lw_g (lw_at lw_m5 207 rfl) rfl
theorem q1317 : (Jvm.Cond.selects "CoinJudge$Element" ({ cls := "CoinJudge$Element", name := "isTrue", desc := "()Z" } : Jvm.MethodName) ({ cls := "CoinJudge$Element", name := "isTrue", desc := "()Z" } : Jvm.MethodName)) ∈ lw_all := lw_g (lw_at lw_m5 208 rfl) rfl
theorem q1318 : (Jvm.Cond.code ({ cls := "CoinJudge$Element", name := "isTrue", desc := "()Z" } : Jvm.MethodName) prog_13_method_3_code (2 : Nat) (Option.some Jvm.ClassFile.FieldType.boolean)) ∈ lw_all := lw_g (lw_at lw_m5 209 rfl) rfl
theorem q1319 : (Jvm.Cond.methodLink "CoinJudge$Machine" (95 : Nat) ({ cls := "CoinJudge$Machine", name := "drop", desc := "(I)V" } : Jvm.MethodName)) ∈ lw_all := lw_g (lw_at lw_m5 210 rfl) rfl
theorem q1320 : (Jvm.Cond.privateMethod ({ cls := "CoinJudge$Machine", name := "drop", desc := "(I)V" } : Jvm.MethodName)) ∈ lw_tbl := lw_at lw_m5 211 rfl
theorem q1321 : (Jvm.Cond.instanceMethod ({ cls := "CoinJudge$Machine", name := "drop", desc := "(I)V" } : Jvm.MethodName)) ∈ lw_all := lw_g (lw_at lw_m5 212 rfl) rfl
theorem q1322 : (Jvm.Cond.code ({ cls := "CoinJudge$Machine", name := "drop", desc := "(I)V" } : Jvm.MethodName) prog_15_method_5_code (2 : Nat) (Option.none : Option Jvm.ClassFile.FieldType)) ∈ lw_all := lw_g (lw_at lw_m5 213 rfl) rfl
theorem q1323 : (Jvm.Cond.methodLink "CoinJudge$Machine" (114 : Nat) ({ cls := "CoinJudge$Machine", name := "single", desc := "(ILCoinJudge$Signed;[BII)V" } : Jvm.MethodName)) ∈ lw_all := lw_g (lw_at lw_m5 214 rfl) rfl
theorem q1324 : (Jvm.Cond.privateMethod ({ cls := "CoinJudge$Machine", name := "single", desc := "(ILCoinJudge$Signed;[BII)V" } : Jvm.MethodName)) ∈ lw_tbl := lw_at lw_m5 215 rfl
theorem q1325 : (Jvm.Cond.instanceMethod ({ cls := "CoinJudge$Machine", name := "single", desc := "(ILCoinJudge$Signed;[BII)V" } : Jvm.MethodName)) ∈ lw_all := lw_g (lw_at lw_m5 216 rfl) rfl
theorem q1326 : (Jvm.Cond.code ({ cls := "CoinJudge$Machine", name := "single", desc := "(ILCoinJudge$Signed;[BII)V" } : Jvm.MethodName) prog_15_method_25_code (10 : Nat) (Option.none : Option Jvm.ClassFile.FieldType)) ∈ lw_all := lw_g (lw_at lw_m5 217 rfl) rfl
theorem q1327 : (Jvm.Cond.methodLink "CoinJudge$Machine" (210 : Nat) ({ cls := "CoinJudge$Machine", name := "code", desc := "([BII)I" } : Jvm.MethodName)) ∈ lw_all := lw_g (lw_at lw_m5 218 rfl) rfl
theorem q1328 : (Jvm.Cond.privateMethod ({ cls := "CoinJudge$Machine", name := "code", desc := "([BII)I" } : Jvm.MethodName)) ∈ lw_tbl := lw_at lw_m5 219 rfl
theorem q1329 : (Jvm.Cond.instanceMethod ({ cls := "CoinJudge$Machine", name := "code", desc := "([BII)I" } : Jvm.MethodName)) ∈ lw_all := lw_g (lw_at lw_m5 220 rfl) rfl
theorem q1330 : (Jvm.Cond.code ({ cls := "CoinJudge$Machine", name := "code", desc := "([BII)I" } : Jvm.MethodName) prog_15_method_23_code (5 : Nat) (Option.some Jvm.ClassFile.FieldType.int)) ∈ lw_all := lw_g (lw_at lw_m5 221 rfl) rfl
theorem q1331 : (Jvm.Cond.methodLink "CoinJudge$Machine" (212 : Nat) ({ cls := "CoinJudge$Machine", name := "cleaned", desc := "([BILCoinJudge$Element;)I" } : Jvm.MethodName)) ∈ lw_all := lw_g (lw_at lw_m5 222 rfl) rfl
theorem q1332 : (Jvm.Cond.privateMethod ({ cls := "CoinJudge$Machine", name := "cleaned", desc := "([BILCoinJudge$Element;)I" } : Jvm.MethodName)) ∈ lw_tbl := lw_at lw_m5 223 rfl
theorem q1333 : (Jvm.Cond.instanceMethod ({ cls := "CoinJudge$Machine", name := "cleaned", desc := "([BILCoinJudge$Element;)I" } : Jvm.MethodName)) ∈ lw_all := lw_g (lw_at lw_m5 224 rfl) rfl
theorem q1334 : (Jvm.Cond.code ({ cls := "CoinJudge$Machine", name := "cleaned", desc := "([BILCoinJudge$Element;)I" } : Jvm.MethodName) prog_15_method_22_code (10 : Nat) (Option.some Jvm.ClassFile.FieldType.int)) ∈ lw_all := lw_g (lw_at lw_m5 225 rfl) rfl
theorem q1335 : (Jvm.Cond.methodLink "CoinJudge$Machine" (216 : Nat) ({ cls := "CoinJudge$Machine", name := "encoded", desc := "(LCoinJudge$Element;)V" } : Jvm.MethodName)) ∈ lw_all := lw_g (lw_at lw_m5 226 rfl) rfl
theorem q1336 : (Jvm.Cond.static ({ cls := "CoinJudge$Machine", name := "encoded", desc := "(LCoinJudge$Element;)V" } : Jvm.MethodName)) ∈ lw_all := lw_g (lw_at lw_m5 227 rfl) rfl
theorem q1337 : (Jvm.Cond.code ({ cls := "CoinJudge$Machine", name := "encoded", desc := "(LCoinJudge$Element;)V" } : Jvm.MethodName) prog_15_method_24_code (1 : Nat) (Option.none : Option Jvm.ClassFile.FieldType)) ∈ lw_all := lw_g (lw_at lw_m5 228 rfl) rfl
theorem q1338 : (Jvm.Cond.methodLink "CoinJudge$Machine" (205 : Nat) ({ cls := "CoinJudge$Curve", name := "strict", desc := "([BII)Z" } : Jvm.MethodName)) ∈ lw_all := lw_g (lw_at lw_m5 229 rfl) rfl
theorem q1339 : (Jvm.Cond.static ({ cls := "CoinJudge$Curve", name := "strict", desc := "([BII)Z" } : Jvm.MethodName)) ∈ lw_all := lw_g (lw_at lw_m5 230 rfl) rfl
theorem q1340 : (Jvm.Cond.code ({ cls := "CoinJudge$Curve", name := "strict", desc := "([BII)Z" } : Jvm.MethodName) prog_7_method_9_code (6 : Nat) (Option.some Jvm.ClassFile.FieldType.boolean)) ∈ lw_all := lw_g (lw_at lw_m5 231 rfl) rfl
theorem q1341 : (Jvm.Cond.methodLink "CoinJudge$Curve" (169 : Nat) ({ cls := "CoinJudge$Curve", name := "integer", desc := "([BII)I" } : Jvm.MethodName)) ∈ lw_all := lw_g (lw_at lw_m5 232 rfl) rfl
theorem q1342 : (Jvm.Cond.static ({ cls := "CoinJudge$Curve", name := "integer", desc := "([BII)I" } : Jvm.MethodName)) ∈ lw_all := lw_g (lw_at lw_m5 233 rfl) rfl
theorem q1343 : (Jvm.Cond.code ({ cls := "CoinJudge$Curve", name := "integer", desc := "([BII)I" } : Jvm.MethodName) prog_7_method_8_code (4 : Nat) (Option.some Jvm.ClassFile.FieldType.int)) ∈ lw_all := lw_g (lw_at lw_m5 234 rfl) rfl
theorem q1344 : (Jvm.Cond.interfaceEntry "CoinJudge$Machine" (220 : Nat)) ∈ lw_tbl := lw_at lw_m5 235 rfl
theorem q1345 : (Jvm.Cond.methodLink "CoinJudge$Machine" (220 : Nat) ({ cls := "CoinJudge$Signed", name := "signed", desc := "(LCoinJudge$Element;LCoinJudge$Element;[BII)Z" } : Jvm.MethodName)) ∈ lw_all := lw_g (lw_at lw_m5 236 rfl) rfl
theorem q1346 : (Jvm.Cond.interfaceMethod "CoinJudge$Signed" "CoinJudge$Signed" "signed" "(LCoinJudge$Element;LCoinJudge$Element;[BII)Z") ∈ lw_tbl := lw_at lw_m5 237 rfl
theorem q1347 : (Jvm.Cond.declares ({ cls := "CoinJudge$Signed", name := "signed", desc := "(LCoinJudge$Element;LCoinJudge$Element;[BII)Z" } : Jvm.MethodName)) ∈ lw_tbl := lw_at lw_m5 238 rfl
theorem q1348 : (Jvm.Cond.castable "CoinJudge$Signing" "CoinJudge$Signed") ∈ lw_tbl := lw_at lw_m5 239 rfl
theorem q1349 : (Jvm.Cond.selects "CoinJudge$Signing" ({ cls := "CoinJudge$Signed", name := "signed", desc := "(LCoinJudge$Element;LCoinJudge$Element;[BII)Z" } : Jvm.MethodName) ({ cls := "CoinJudge$Signing", name := "signed", desc := "(LCoinJudge$Element;LCoinJudge$Element;[BII)Z" } : Jvm.MethodName)) ∈ lw_all := lw_g (lw_at lw_m6 0 rfl) rfl
theorem q1350 : (Jvm.Cond.unhidden "CoinJudge$Signing" "signed" "(LCoinJudge$Element;LCoinJudge$Element;[BII)Z") ∈ lw_tbl := lw_at lw_m6 1 rfl
theorem q1351 : (Jvm.Cond.instanceMethod ({ cls := "CoinJudge$Signing", name := "signed", desc := "(LCoinJudge$Element;LCoinJudge$Element;[BII)Z" } : Jvm.MethodName)) ∈ lw_all := lw_g (lw_at lw_m6 2 rfl) rfl
theorem q1352 : (Jvm.Cond.publicMethod ({ cls := "CoinJudge$Signing", name := "signed", desc := "(LCoinJudge$Element;LCoinJudge$Element;[BII)Z" } : Jvm.MethodName)) ∈ lw_tbl := lw_at lw_m6 3 rfl
theorem q1353 : (Jvm.Cond.code ({ cls := "CoinJudge$Signing", name := "signed", desc := "(LCoinJudge$Element;LCoinJudge$Element;[BII)Z" } : Jvm.MethodName) prog_21_method_10_code (6 : Nat) (Option.some Jvm.ClassFile.FieldType.boolean)) ∈ lw_all := lw_g (lw_at lw_m6 4 rfl) rfl
theorem q1354 : (Jvm.Cond.methodLink "CoinJudge$Signing" (123 : Nat) ({ cls := "CoinJudge$Signing", name := "make", desc := "(I[BII)V" } : Jvm.MethodName)) ∈ lw_all := lw_g (lw_at lw_m6 5 rfl) rfl
theorem q1355 : (Jvm.Cond.instanceMethod ({ cls := "CoinJudge$Signing", name := "make", desc := "(I[BII)V" } : Jvm.MethodName)) ∈ lw_all := lw_g (lw_at lw_m6 6 rfl) rfl
theorem q1356 : (Jvm.Cond.selects "CoinJudge$Signing" ({ cls := "CoinJudge$Signing", name := "make", desc := "(I[BII)V" } : Jvm.MethodName) ({ cls := "CoinJudge$Signing", name := "make", desc := "(I[BII)V" } : Jvm.MethodName)) ∈ lw_all := lw_g (lw_at lw_m6 7 rfl) rfl
theorem q1357 : (Jvm.Cond.code ({ cls := "CoinJudge$Signing", name := "make", desc := "(I[BII)V" } : Jvm.MethodName) prog_21_method_7_code (11 : Nat) (Option.none : Option Jvm.ClassFile.FieldType)) ∈ lw_all := lw_g (lw_at lw_m6 8 rfl) rfl
theorem q1358 : (Jvm.Cond.methodLink "CoinJudge$Signing" (40 : Nat) ({ cls := "CoinJudge$Signing", name := "put", desc := "(JI)V" } : Jvm.MethodName)) ∈ lw_all := lw_g (lw_at lw_m6 9 rfl) rfl
theorem q1359 : (Jvm.Cond.privateMethod ({ cls := "CoinJudge$Signing", name := "put", desc := "(JI)V" } : Jvm.MethodName)) ∈ lw_tbl := lw_at lw_m6 10 rfl
theorem q1360 : (Jvm.Cond.instanceMethod ({ cls := "CoinJudge$Signing", name := "put", desc := "(JI)V" } : Jvm.MethodName)) ∈ lw_all := lw_g (lw_at lw_m6 11 rfl) rfl
theorem q1361 : (Jvm.Cond.code ({ cls := "CoinJudge$Signing", name := "put", desc := "(JI)V" } : Jvm.MethodName) prog_21_method_4_code (5 : Nat) (Option.none : Option Jvm.ClassFile.FieldType)) ∈ lw_all := lw_g (lw_at lw_m6 12 rfl) rfl
theorem q1362 : (Jvm.Cond.methodLink "CoinJudge$Signing" (66 : Nat) ({ cls := "CoinJudge$Signing", name := "count", desc := "(I)V" } : Jvm.MethodName)) ∈ lw_all := lw_g (lw_at lw_m6 13 rfl) rfl
theorem q1363 : (Jvm.Cond.privateMethod ({ cls := "CoinJudge$Signing", name := "count", desc := "(I)V" } : Jvm.MethodName)) ∈ lw_tbl := lw_at lw_m6 14 rfl
theorem q1364 : (Jvm.Cond.instanceMethod ({ cls := "CoinJudge$Signing", name := "count", desc := "(I)V" } : Jvm.MethodName)) ∈ lw_all := lw_g (lw_at lw_m6 15 rfl) rfl
theorem q1365 : (Jvm.Cond.code ({ cls := "CoinJudge$Signing", name := "count", desc := "(I)V" } : Jvm.MethodName) prog_21_method_5_code (2 : Nat) (Option.none : Option Jvm.ClassFile.FieldType)) ∈ lw_all := lw_g (lw_at lw_m6 16 rfl) rfl
theorem q1366 : (Jvm.Cond.constantLong "CoinJudge$Signing" (44 : Nat) (253 : Int64)) ∈ lw_all := lw_g (lw_at lw_m6 17 rfl) rfl
theorem q1367 : (Jvm.Cond.methodLink "CoinJudge$Signing" (75 : Nat) ({ cls := "CoinJudge$Signing", name := "copy", desc := "([BII)V" } : Jvm.MethodName)) ∈ lw_all := lw_g (lw_at lw_m6 18 rfl) rfl
theorem q1368 : (Jvm.Cond.privateMethod ({ cls := "CoinJudge$Signing", name := "copy", desc := "([BII)V" } : Jvm.MethodName)) ∈ lw_tbl := lw_at lw_m6 19 rfl
theorem q1369 : (Jvm.Cond.instanceMethod ({ cls := "CoinJudge$Signing", name := "copy", desc := "([BII)V" } : Jvm.MethodName)) ∈ lw_all := lw_g (lw_at lw_m6 20 rfl) rfl
theorem q1370 : (Jvm.Cond.code ({ cls := "CoinJudge$Signing", name := "copy", desc := "([BII)V" } : Jvm.MethodName) prog_21_method_6_code (4 : Nat) (Option.none : Option Jvm.ClassFile.FieldType)) ∈ lw_all := lw_g (lw_at lw_m6 21 rfl) rfl
theorem q1371 : (Jvm.Cond.methodLink "CoinJudge$Signing" (46 : Nat) ({ cls := "java/lang/System", name := "arraycopy", desc := "(Ljava/lang/Object;ILjava/lang/Object;II)V" } : Jvm.MethodName)) ∈ lw_all := lw_g (lw_at lw_m6 22 rfl) rfl
theorem q1372 : (Jvm.Cond.methodLink "CoinJudge$Signing" (82 : Nat) ({ cls := "CoinJudge$Signing", name := "code", desc := "([BII)V" } : Jvm.MethodName)) ∈ lw_all := lw_g (lw_at lw_m6 23 rfl) rfl
theorem q1373 : (Jvm.Cond.privateMethod ({ cls := "CoinJudge$Signing", name := "code", desc := "([BII)V" } : Jvm.MethodName)) ∈ lw_tbl := lw_at lw_m6 24 rfl
theorem q1374 : (Jvm.Cond.instanceMethod ({ cls := "CoinJudge$Signing", name := "code", desc := "([BII)V" } : Jvm.MethodName)) ∈ lw_all := lw_g (lw_at lw_m6 25 rfl) rfl
theorem q1375 : (Jvm.Cond.code ({ cls := "CoinJudge$Signing", name := "code", desc := "([BII)V" } : Jvm.MethodName) prog_21_method_8_code (7 : Nat) (Option.none : Option Jvm.ClassFile.FieldType)) ∈ lw_all := lw_g (lw_at lw_m6 26 rfl) rfl
theorem q1376 : (Jvm.Cond.methodLink "CoinJudge$Signing" (110 : Nat) ({ cls := "CoinJudge$Signing", name := "step", desc := "([BII)I" } : Jvm.MethodName)) ∈ lw_all := lw_g (lw_at lw_m6 27 rfl) rfl
theorem q1377 : (Jvm.Cond.static ({ cls := "CoinJudge$Signing", name := "step", desc := "([BII)I" } : Jvm.MethodName)) ∈ lw_all := lw_g (lw_at lw_m6 28 rfl) rfl
theorem q1378 : (Jvm.Cond.code ({ cls := "CoinJudge$Signing", name := "step", desc := "([BII)I" } : Jvm.MethodName) prog_21_method_9_code (4 : Nat) (Option.some Jvm.ClassFile.FieldType.int)) ∈ lw_all := lw_g (lw_at lw_m6 29 rfl) rfl
theorem q1379 : (Jvm.Cond.methodLinkNest "CoinJudge$Signing" (114 : Nat) ({ cls := "CoinJudge$Machine", name := "length", desc := "([BII)I" } : Jvm.MethodName) "CoinJudge") ∈ lw_tbl := lw_at lw_m6 30 rfl
theorem q1380 : (Jvm.Cond.constantLong "CoinJudge$Signing" (88 : Nat) (-1 : Int64)) ∈ lw_all := lw_g (lw_at lw_m6 31 rfl) rfl
theorem q1381 : (Jvm.Cond.methodLink "CoinJudge$Signing" (104 : Nat) ({ cls := "CoinJudge$Digests", name := "twice", desc := "([BII[BI)V" } : Jvm.MethodName)) ∈ lw_all := lw_g (lw_at lw_m6 32 rfl) rfl
theorem q1382 : (Jvm.Cond.methodLink "CoinJudge$Signing" (127 : Nat) ({ cls := "CoinJudge$Curve", name := "verify", desc := "([BI[B[BII)Z" } : Jvm.MethodName)) ∈ lw_all := lw_g (lw_at lw_m6 33 rfl) rfl
theorem q1383 : (Jvm.Cond.instanceMethod ({ cls := "CoinJudge$Curve", name := "verify", desc := "([BI[B[BII)Z" } : Jvm.MethodName)) ∈ lw_all := lw_g (lw_at lw_m6 34 rfl) rfl
theorem q1384 : (Jvm.Cond.selects "CoinJudge$Curve" ({ cls := "CoinJudge$Curve", name := "verify", desc := "([BI[B[BII)Z" } : Jvm.MethodName) ({ cls := "CoinJudge$Curve", name := "verify", desc := "([BI[B[BII)Z" } : Jvm.MethodName)) ∈ lw_all := lw_g (lw_at lw_m6 35 rfl) rfl
theorem q1385 : (Jvm.Cond.code ({ cls := "CoinJudge$Curve", name := "verify", desc := "([BI[B[BII)Z" } : Jvm.MethodName) prog_7_method_11_code (8 : Nat) (Option.some Jvm.ClassFile.FieldType.boolean)) ∈ lw_all := lw_g (lw_at lw_m6 36 rfl) rfl
theorem q1386 : (Jvm.Cond.methodLink "CoinJudge$Curve" (173 : Nat) ({ cls := "CoinJudge$Curve", name := "decode", desc := "([BII)Z" } : Jvm.MethodName)) ∈ lw_all := lw_g (lw_at lw_m6 37 rfl) rfl
theorem q1387 : (Jvm.Cond.privateMethod ({ cls := "CoinJudge$Curve", name := "decode", desc := "([BII)Z" } : Jvm.MethodName)) ∈ lw_tbl := lw_at lw_m6 38 rfl
theorem q1388 : (Jvm.Cond.instanceMethod ({ cls := "CoinJudge$Curve", name := "decode", desc := "([BII)Z" } : Jvm.MethodName)) ∈ lw_all := lw_g (lw_at lw_m6 39 rfl) rfl
theorem q1389 : (Jvm.Cond.code ({ cls := "CoinJudge$Curve", name := "decode", desc := "([BII)Z" } : Jvm.MethodName) prog_7_method_7_code (7 : Nat) (Option.some Jvm.ClassFile.FieldType.boolean)) ∈ lw_all := lw_g (lw_at lw_m6 40 rfl) rfl
theorem q1390 : (Jvm.Cond.methodLink "CoinJudge$Curve" (146 : Nat) ({ cls := "CoinJudge$Big", name := "read", desc := "([BII)LCoinJudge$Big;" } : Jvm.MethodName)) ∈ lw_all := lw_g (lw_at lw_m6 41 rfl) rfl
theorem q1391 : (Jvm.Cond.instanceMethod ({ cls := "CoinJudge$Big", name := "read", desc := "([BII)LCoinJudge$Big;" } : Jvm.MethodName)) ∈ lw_all := lw_g (lw_at lw_m6 42 rfl) rfl
theorem q1392 : (Jvm.Cond.selects "CoinJudge$Big" ({ cls := "CoinJudge$Big", name := "read", desc := "([BII)LCoinJudge$Big;" } : Jvm.MethodName) ({ cls := "CoinJudge$Big", name := "read", desc := "([BII)LCoinJudge$Big;" } : Jvm.MethodName)) ∈ lw_all := lw_g (lw_at lw_m6 43 rfl) rfl
theorem q1393 : (Jvm.Cond.code ({ cls := "CoinJudge$Big", name := "read", desc := "([BII)LCoinJudge$Big;" } : Jvm.MethodName) prog_2_method_12_code (6 : Nat) (Option.some (Jvm.ClassFile.FieldType.object "CoinJudge$Big"))) ∈ lw_all := lw_g (lw_at lw_m6 44 rfl) rfl
theorem q1394 : (Jvm.Cond.methodLink "CoinJudge$Curve" (150 : Nat) ({ cls := "CoinJudge$Ring", name := "modulus", desc := "()LCoinJudge$Big;" } : Jvm.MethodName)) ∈ lw_all := lw_g (lw_at lw_m6 45 rfl) rfl
theorem q1395 : (Jvm.Cond.instanceMethod ({ cls := "CoinJudge$Ring", name := "modulus", desc := "()LCoinJudge$Big;" } : Jvm.MethodName)) ∈ lw_all := lw_g (lw_at lw_m6 46 rfl) rfl
theorem q1396 : (Jvm.Cond.selects "CoinJudge$Ring" ({ cls := "CoinJudge$Ring", name := "modulus", desc := "()LCoinJudge$Big;" } : Jvm.MethodName) ({ cls := "CoinJudge$Ring", name := "modulus", desc := "()LCoinJudge$Big;" } : Jvm.MethodName)) ∈ lw_all := lw_g (lw_at lw_m6 47 rfl) rfl
theorem q1397 : (Jvm.Cond.code ({ cls := "CoinJudge$Ring", name := "modulus", desc := "()LCoinJudge$Big;" } : Jvm.MethodName) prog_19_method_2_code (1 : Nat) (Option.some (Jvm.ClassFile.FieldType.object "CoinJudge$Big"))) ∈ lw_all := lw_g (lw_at lw_m6 48 rfl) rfl
theorem q1398 : (Jvm.Cond.methodLink "CoinJudge$Curve" (153 : Nat) ({ cls := "CoinJudge$Big", name := "compare", desc := "(LCoinJudge$Big;)I" } : Jvm.MethodName)) ∈ lw_all := lw_g (lw_at lw_m6 49 rfl) rfl
theorem q1399 : (Jvm.Cond.methodLink "CoinJudge$Curve" (106 : Nat) ({ cls := "CoinJudge$Ring", name := "multiply", desc := "(LCoinJudge$Big;LCoinJudge$Big;LCoinJudge$Big;)V" } : Jvm.MethodName)) ∈ lw_all := lw_g (lw_at lw_m6 50 rfl) rfl
theorem q1400 : (Jvm.Cond.instanceMethod ({ cls := "CoinJudge$Ring", name := "multiply", desc := "(LCoinJudge$Big;LCoinJudge$Big;LCoinJudge$Big;)V" } : Jvm.MethodName)) ∈ lw_all := lw_g (lw_at lw_m6 51 rfl) rfl
theorem q1401 : (Jvm.Cond.selects "CoinJudge$Ring" ({ cls := "CoinJudge$Ring", name := "multiply", desc := "(LCoinJudge$Big;LCoinJudge$Big;LCoinJudge$Big;)V" } : Jvm.MethodName) ({ cls := "CoinJudge$Ring", name := "multiply", desc := "(LCoinJudge$Big;LCoinJudge$Big;LCoinJudge$Big;)V" } : Jvm.MethodName)) ∈ lw_all := lw_g (lw_at lw_m6 52 rfl) rfl
theorem q1402 : (Jvm.Cond.code ({ cls := "CoinJudge$Ring", name := "multiply", desc := "(LCoinJudge$Big;LCoinJudge$Big;LCoinJudge$Big;)V" } : Jvm.MethodName) prog_19_method_7_code (5 : Nat) (Option.none : Option Jvm.ClassFile.FieldType)) ∈ lw_all := lw_g (lw_at lw_m6 53 rfl) rfl
theorem q1403 : (Jvm.Cond.methodLink "CoinJudge$Ring" (64 : Nat) ({ cls := "CoinJudge$Ring", name := "product", desc := "([I[IILCoinJudge$Big;LCoinJudge$Big;)V" } : Jvm.MethodName)) ∈ lw_all := lw_g (lw_at lw_m6 54 rfl) rfl
theorem q1404 : (Jvm.Cond.privateMethod ({ cls := "CoinJudge$Ring", name := "product", desc := "([I[IILCoinJudge$Big;LCoinJudge$Big;)V" } : Jvm.MethodName)) ∈ lw_tbl := lw_at lw_m6 55 rfl
theorem q1405 : (Jvm.Cond.instanceMethod ({ cls := "CoinJudge$Ring", name := "product", desc := "([I[IILCoinJudge$Big;LCoinJudge$Big;)V" } : Jvm.MethodName)) ∈ lw_all := lw_g (lw_at lw_m6 56 rfl) rfl
theorem q1406 : (Jvm.Cond.code ({ cls := "CoinJudge$Ring", name := "product", desc := "([I[IILCoinJudge$Big;LCoinJudge$Big;)V" } : Jvm.MethodName) prog_19_method_5_code (12 : Nat) (Option.none : Option Jvm.ClassFile.FieldType)) ∈ lw_all := lw_g (lw_at lw_m6 57 rfl) rfl
theorem q1407 : (Jvm.Cond.constantLong "CoinJudge$Ring" (62 : Nat) (4294967295 : Int64)) ∈ lw_all := lw_g (lw_at lw_m6 58 rfl) rfl
theorem q1408 : (Jvm.Cond.methodLink "CoinJudge$Ring" (68 : Nat) ({ cls := "CoinJudge$Ring", name := "high", desc := "()Z" } : Jvm.MethodName)) ∈ lw_all := lw_g (lw_at lw_m6 59 rfl) rfl
theorem q1409 : (Jvm.Cond.privateMethod ({ cls := "CoinJudge$Ring", name := "high", desc := "()Z" } : Jvm.MethodName)) ∈ lw_tbl := lw_at lw_m6 60 rfl
theorem q1410 : (Jvm.Cond.instanceMethod ({ cls := "CoinJudge$Ring", name := "high", desc := "()Z" } : Jvm.MethodName)) ∈ lw_all := lw_g (lw_at lw_m6 61 rfl) rfl
theorem q1411 : (Jvm.Cond.code ({ cls := "CoinJudge$Ring", name := "high", desc := "()Z" } : Jvm.MethodName) prog_19_method_6_code (2 : Nat) (Option.some Jvm.ClassFile.FieldType.boolean)) ∈ lw_all := lw_g (lw_at lw_m6 62 rfl) rfl
theorem q1412 : (Jvm.Cond.methodLink "CoinJudge$Ring" (55 : Nat) ({ cls := "CoinJudge$Big", name := "compare", desc := "(LCoinJudge$Big;)I" } : Jvm.MethodName)) ∈ lw_all := lw_g (lw_at lw_m6 63 rfl) rfl
theorem q1413 : (Jvm.Cond.constantLong "CoinJudge$Curve" (157 : Nat) (7 : Int64)) ∈ lw_all := lw_g (lw_at lw_m6 64 rfl) rfl
theorem q1414 : (Jvm.Cond.methodLink "CoinJudge$Curve" (110 : Nat) ({ cls := "CoinJudge$Ring", name := "add", desc := "(LCoinJudge$Big;LCoinJudge$Big;LCoinJudge$Big;)V" } : Jvm.MethodName)) ∈ lw_all := lw_g (lw_at lw_m6 65 rfl) rfl
theorem q1415 : (Jvm.Cond.instanceMethod ({ cls := "CoinJudge$Ring", name := "add", desc := "(LCoinJudge$Big;LCoinJudge$Big;LCoinJudge$Big;)V" } : Jvm.MethodName)) ∈ lw_all := lw_g (lw_at lw_m6 66 rfl) rfl
theorem q1416 : (Jvm.Cond.selects "CoinJudge$Ring" ({ cls := "CoinJudge$Ring", name := "add", desc := "(LCoinJudge$Big;LCoinJudge$Big;LCoinJudge$Big;)V" } : Jvm.MethodName) ({ cls := "CoinJudge$Ring", name := "add", desc := "(LCoinJudge$Big;LCoinJudge$Big;LCoinJudge$Big;)V" } : Jvm.MethodName)) ∈ lw_all := lw_g (lw_at lw_m6 67 rfl) rfl
theorem q1417 : (Jvm.Cond.code ({ cls := "CoinJudge$Ring", name := "add", desc := "(LCoinJudge$Big;LCoinJudge$Big;LCoinJudge$Big;)V" } : Jvm.MethodName) prog_19_method_3_code (5 : Nat) (Option.none : Option Jvm.ClassFile.FieldType)) ∈ lw_all := lw_g (lw_at lw_m6 68 rfl) rfl
theorem q1418 : (Jvm.Cond.methodLink "CoinJudge$Ring" (51 : Nat) ({ cls := "CoinJudge$Big", name := "add", desc := "(LCoinJudge$Big;LCoinJudge$Big;)I" } : Jvm.MethodName)) ∈ lw_all := lw_g (lw_at lw_m6 69 rfl) rfl
theorem q1419 : (Jvm.Cond.methodLink "CoinJudge$Curve" (159 : Nat) ({ cls := "CoinJudge$Big", name := "add", desc := "(LCoinJudge$Big;LCoinJudge$Big;)I" } : Jvm.MethodName)) ∈ lw_all := lw_g (lw_at lw_m6 70 rfl) rfl
theorem q1420 : (Jvm.Cond.methodLink "CoinJudge$Curve" (166 : Nat) ({ cls := "CoinJudge$Ring", name := "power", desc := "(LCoinJudge$Big;LCoinJudge$Big;LCoinJudge$Big;)V" } : Jvm.MethodName)) ∈ lw_all := lw_g (lw_at lw_m6 71 rfl) rfl
theorem q1421 : (Jvm.Cond.instanceMethod ({ cls := "CoinJudge$Ring", name := "power", desc := "(LCoinJudge$Big;LCoinJudge$Big;LCoinJudge$Big;)V" } : Jvm.MethodName)) ∈ lw_all := lw_g (lw_at lw_m6 72 rfl) rfl
theorem q1422 : (Jvm.Cond.selects "CoinJudge$Ring" ({ cls := "CoinJudge$Ring", name := "power", desc := "(LCoinJudge$Big;LCoinJudge$Big;LCoinJudge$Big;)V" } : Jvm.MethodName) ({ cls := "CoinJudge$Ring", name := "power", desc := "(LCoinJudge$Big;LCoinJudge$Big;LCoinJudge$Big;)V" } : Jvm.MethodName)) ∈ lw_all := lw_g (lw_at lw_m6 73 rfl) rfl
theorem q1423 : (Jvm.Cond.code ({ cls := "CoinJudge$Ring", name := "power", desc := "(LCoinJudge$Big;LCoinJudge$Big;LCoinJudge$Big;)V" } : Jvm.MethodName) prog_19_method_9_code (5 : Nat) (Option.none : Option Jvm.ClassFile.FieldType)) ∈ lw_all := lw_g (lw_at lw_m6 74 rfl) rfl
theorem q1424 : (Jvm.Cond.methodLink "CoinJudge$Ring" (72 : Nat) ({ cls := "CoinJudge$Big", name := "small", desc := "(J)LCoinJudge$Big;" } : Jvm.MethodName)) ∈ lw_all := lw_g (lw_at lw_m6 75 rfl) rfl
theorem q1425 : (Jvm.Cond.methodLink "CoinJudge$Ring" (76 : Nat) ({ cls := "CoinJudge$Big", name := "copy", desc := "(LCoinJudge$Big;)LCoinJudge$Big;" } : Jvm.MethodName)) ∈ lw_all := lw_g (lw_at lw_m6 76 rfl) rfl
theorem q1426 : (Jvm.Cond.methodLink "CoinJudge$Ring" (80 : Nat) ({ cls := "CoinJudge$Big", name := "length", desc := "()I" } : Jvm.MethodName)) ∈ lw_all := lw_g (lw_at lw_m6 77 rfl) rfl
theorem q1427 : (Jvm.Cond.methodLink "CoinJudge$Ring" (84 : Nat) ({ cls := "CoinJudge$Ring", name := "multiply", desc := "(LCoinJudge$Big;LCoinJudge$Big;LCoinJudge$Big;)V" } : Jvm.MethodName)) ∈ lw_all := lw_g (lw_at lw_m6 78 rfl) rfl
theorem q1428 : (Jvm.Cond.methodLink "CoinJudge$Ring" (88 : Nat) ({ cls := "CoinJudge$Big", name := "bit", desc := "(I)I" } : Jvm.MethodName)) ∈ lw_all := lw_g (lw_at lw_m6 79 rfl) rfl
theorem q1429 : (Jvm.Cond.methodLink "CoinJudge$Curve" (135 : Nat) ({ cls := "CoinJudge$Big", name := "bit", desc := "(I)I" } : Jvm.MethodName)) ∈ lw_all := lw_g (lw_at lw_m6 80 rfl) rfl
theorem q1430 : (Jvm.Cond.methodLink "CoinJudge$Curve" (127 : Nat) ({ cls := "CoinJudge$Big", name := "zero", desc := "()LCoinJudge$Big;" } : Jvm.MethodName)) ∈ lw_all := lw_g (lw_at lw_m6 81 rfl) rfl
theorem q1431 : (Jvm.Cond.methodLink "CoinJudge$Curve" (113 : Nat) ({ cls := "CoinJudge$Ring", name := "subtract", desc := "(LCoinJudge$Big;LCoinJudge$Big;LCoinJudge$Big;)V" } : Jvm.MethodName)) ∈ lw_all := lw_g (lw_at lw_m6 82 rfl) rfl
theorem q1432 : (Jvm.Cond.instanceMethod ({ cls := "CoinJudge$Ring", name := "subtract", desc := "(LCoinJudge$Big;LCoinJudge$Big;LCoinJudge$Big;)V" } : Jvm.MethodName)) ∈ lw_all := lw_g (lw_at lw_m6 83 rfl) rfl
theorem q1433 : (Jvm.Cond.selects "CoinJudge$Ring" ({ cls := "CoinJudge$Ring", name := "subtract", desc := "(LCoinJudge$Big;LCoinJudge$Big;LCoinJudge$Big;)V" } : Jvm.MethodName) ({ cls := "CoinJudge$Ring", name := "subtract", desc := "(LCoinJudge$Big;LCoinJudge$Big;LCoinJudge$Big;)V" } : Jvm.MethodName)) ∈ lw_all := lw_g (lw_at lw_m6 84 rfl) rfl
theorem q1434 : (Jvm.Cond.code ({ cls := "CoinJudge$Ring", name := "subtract", desc := "(LCoinJudge$Big;LCoinJudge$Big;LCoinJudge$Big;)V" } : Jvm.MethodName) prog_19_method_4_code (5 : Nat) (Option.none : Option Jvm.ClassFile.FieldType)) ∈ lw_all := lw_g (lw_at lw_m6 85 rfl) rfl
theorem q1435 : (Jvm.Cond.methodLink "CoinJudge$Curve" (177 : Nat) ({ cls := "CoinJudge$Curve", name := "part", desc := "(LCoinJudge$Big;[BI)V" } : Jvm.MethodName)) ∈ lw_all := lw_g (lw_at lw_m6 86 rfl) rfl
theorem q1436 : (Jvm.Cond.privateMethod ({ cls := "CoinJudge$Curve", name := "part", desc := "(LCoinJudge$Big;[BI)V" } : Jvm.MethodName)) ∈ lw_tbl := lw_at lw_m6 87 rfl
theorem q1437 : (Jvm.Cond.instanceMethod ({ cls := "CoinJudge$Curve", name := "part", desc := "(LCoinJudge$Big;[BI)V" } : Jvm.MethodName)) ∈ lw_all := lw_g (lw_at lw_m6 88 rfl) rfl
theorem q1438 : (Jvm.Cond.code ({ cls := "CoinJudge$Curve", name := "part", desc := "(LCoinJudge$Big;[BI)V" } : Jvm.MethodName) prog_7_method_10_code (6 : Nat) (Option.none : Option Jvm.ClassFile.FieldType)) ∈ lw_all := lw_g (lw_at lw_m6 89 rfl) rfl
theorem q1439 : (Jvm.Cond.methodLink "CoinJudge$Curve" (120 : Nat) ({ cls := "CoinJudge$Big", name := "isZero", desc := "()Z" } : Jvm.MethodName)) ∈ lw_all := lw_g (lw_at lw_m6 90 rfl) rfl
theorem q1440 : (Jvm.Cond.instanceMethod ({ cls := "CoinJudge$Big", name := "isZero", desc := "()Z" } : Jvm.MethodName)) ∈ lw_all := lw_g (lw_at lw_m6 91 rfl) rfl
theorem q1441 : (Jvm.Cond.selects "CoinJudge$Big" ({ cls := "CoinJudge$Big", name := "isZero", desc := "()Z" } : Jvm.MethodName) ({ cls := "CoinJudge$Big", name := "isZero", desc := "()Z" } : Jvm.MethodName)) ∈ lw_all := lw_g (lw_at lw_m6 92 rfl) rfl
theorem q1442 : (Jvm.Cond.code ({ cls := "CoinJudge$Big", name := "isZero", desc := "()Z" } : Jvm.MethodName) prog_2_method_5_code (2 : Nat) (Option.some Jvm.ClassFile.FieldType.boolean)) ∈ lw_all := lw_g (lw_at lw_m6 93 rfl) rfl
theorem q1443 : (Jvm.Cond.methodLink "CoinJudge$Curve" (181 : Nat) ({ cls := "CoinJudge$Ring", name := "reduce", desc := "(LCoinJudge$Big;)V" } : Jvm.MethodName)) ∈ lw_all := lw_g (lw_at lw_m6 94 rfl) rfl
theorem q1444 : (Jvm.Cond.instanceMethod ({ cls := "CoinJudge$Ring", name := "reduce", desc := "(LCoinJudge$Big;)V" } : Jvm.MethodName)) ∈ lw_all := lw_g (lw_at lw_m6 95 rfl) rfl
theorem q1445 : (Jvm.Cond.selects "CoinJudge$Ring" ({ cls := "CoinJudge$Ring", name := "reduce", desc := "(LCoinJudge$Big;)V" } : Jvm.MethodName) ({ cls := "CoinJudge$Ring", name := "reduce", desc := "(LCoinJudge$Big;)V" } : Jvm.MethodName)) ∈ lw_all := lw_g (lw_at lw_m6 96 rfl) rfl
theorem q1446 : (Jvm.Cond.code ({ cls := "CoinJudge$Ring", name := "reduce", desc := "(LCoinJudge$Big;)V" } : Jvm.MethodName) prog_19_method_8_code (2 : Nat) (Option.none : Option Jvm.ClassFile.FieldType)) ∈ lw_all := lw_g (lw_at lw_m6 97 rfl) rfl
theorem q1447 : (Jvm.Cond.methodLink "CoinJudge$Curve" (142 : Nat) ({ cls := "CoinJudge$Ring", name := "invert", desc := "(LCoinJudge$Big;LCoinJudge$Big;)V" } : Jvm.MethodName)) ∈ lw_all := lw_g (lw_at lw_m6 98 rfl) rfl
theorem q1448 : (Jvm.Cond.instanceMethod ({ cls := "CoinJudge$Ring", name := "invert", desc := "(LCoinJudge$Big;LCoinJudge$Big;)V" } : Jvm.MethodName)) ∈ lw_all := lw_g (lw_at lw_m6 99 rfl) rfl
theorem q1449 : (Jvm.Cond.selects "CoinJudge$Ring" ({ cls := "CoinJudge$Ring", name := "invert", desc := "(LCoinJudge$Big;LCoinJudge$Big;)V" } : Jvm.MethodName) ({ cls := "CoinJudge$Ring", name := "invert", desc := "(LCoinJudge$Big;LCoinJudge$Big;)V" } : Jvm.MethodName)) ∈ lw_all := lw_g (lw_at lw_m6 100 rfl) rfl
theorem q1450 : (Jvm.Cond.code ({ cls := "CoinJudge$Ring", name := "invert", desc := "(LCoinJudge$Big;LCoinJudge$Big;)V" } : Jvm.MethodName) prog_19_method_10_code (3 : Nat) (Option.none : Option Jvm.ClassFile.FieldType)) ∈ lw_all := lw_g (lw_at lw_m6 101 rfl) rfl
theorem q1451 : (Jvm.Cond.constantLong "CoinJudge$Ring" (92 : Nat) (2 : Int64)) ∈ lw_all := lw_g (lw_at lw_m6 102 rfl) rfl
theorem q1452 : (Jvm.Cond.methodLink "CoinJudge$Ring" (94 : Nat) ({ cls := "CoinJudge$Ring", name := "power", desc := "(LCoinJudge$Big;LCoinJudge$Big;LCoinJudge$Big;)V" } : Jvm.MethodName)) ∈ lw_all := lw_g (lw_at lw_m6 103 rfl) rfl
theorem q1453 : (Jvm.Cond.methodLink "CoinJudge$Curve" (184 : Nat) ({ cls := "CoinJudge$Curve", name := "times", desc := "(LCoinJudge$Point;LCoinJudge$Big;LCoinJudge$Point;)V" } : Jvm.MethodName)) ∈ lw_all := lw_g (lw_at lw_m6 104 rfl) rfl
theorem q1454 : (Jvm.Cond.privateMethod ({ cls := "CoinJudge$Curve", name := "times", desc := "(LCoinJudge$Point;LCoinJudge$Big;LCoinJudge$Point;)V" } : Jvm.MethodName)) ∈ lw_tbl := lw_at lw_m6 105 rfl
theorem q1455 : (Jvm.Cond.instanceMethod ({ cls := "CoinJudge$Curve", name := "times", desc := "(LCoinJudge$Point;LCoinJudge$Big;LCoinJudge$Point;)V" } : Jvm.MethodName)) ∈ lw_all := lw_g (lw_at lw_m6 106 rfl) rfl
theorem q1456 : (Jvm.Cond.code ({ cls := "CoinJudge$Curve", name := "times", desc := "(LCoinJudge$Point;LCoinJudge$Big;LCoinJudge$Point;)V" } : Jvm.MethodName) prog_7_method_5_code (5 : Nat) (Option.none : Option Jvm.ClassFile.FieldType)) ∈ lw_all := lw_g (lw_at lw_m6 107 rfl) rfl
theorem q1457 : (Jvm.Cond.methodLink "CoinJudge$Curve" (131 : Nat) ({ cls := "CoinJudge$Big", name := "length", desc := "()I" } : Jvm.MethodName)) ∈ lw_all := lw_g (lw_at lw_m6 108 rfl) rfl
theorem q1458 : (Jvm.Cond.methodLink "CoinJudge$Curve" (123 : Nat) ({ cls := "CoinJudge$Curve", name := "twice", desc := "(LCoinJudge$Point;)V" } : Jvm.MethodName)) ∈ lw_all := lw_g (lw_at lw_m6 109 rfl) rfl
theorem q1459 : (Jvm.Cond.privateMethod ({ cls := "CoinJudge$Curve", name := "twice", desc := "(LCoinJudge$Point;)V" } : Jvm.MethodName)) ∈ lw_tbl := lw_at lw_m6 110 rfl
theorem q1460 : (Jvm.Cond.instanceMethod ({ cls := "CoinJudge$Curve", name := "twice", desc := "(LCoinJudge$Point;)V" } : Jvm.MethodName)) ∈ lw_all := lw_g (lw_at lw_m6 111 rfl) rfl
theorem q1461 : (Jvm.Cond.code ({ cls := "CoinJudge$Curve", name := "twice", desc := "(LCoinJudge$Point;)V" } : Jvm.MethodName) prog_7_method_3_code (3 : Nat) (Option.none : Option Jvm.ClassFile.FieldType)) ∈ lw_all := lw_g (lw_at lw_m6 112 rfl) rfl
theorem q1462 : (Jvm.Cond.methodLink "CoinJudge$Curve" (102 : Nat) ({ cls := "CoinJudge$Point", name := "none", desc := "()Z" } : Jvm.MethodName)) ∈ lw_all := lw_g (lw_at lw_m6 113 rfl) rfl
theorem q1463 : (Jvm.Cond.instanceMethod ({ cls := "CoinJudge$Point", name := "none", desc := "()Z" } : Jvm.MethodName)) ∈ lw_all := lw_g (lw_at lw_m6 114 rfl) rfl
theorem q1464 : (Jvm.Cond.selects "CoinJudge$Point" ({ cls := "CoinJudge$Point", name := "none", desc := "()Z" } : Jvm.MethodName) ({ cls := "CoinJudge$Point", name := "none", desc := "()Z" } : Jvm.MethodName)) ∈ lw_all := lw_g (lw_at lw_m6 115 rfl) rfl
theorem q1465 : (Jvm.Cond.code ({ cls := "CoinJudge$Point", name := "none", desc := "()Z" } : Jvm.MethodName) prog_17_method_3_code (1 : Nat) (Option.some Jvm.ClassFile.FieldType.boolean)) ∈ lw_all := lw_g (lw_at lw_m6 116 rfl) rfl
theorem q1466 : (Jvm.Cond.methodLink "CoinJudge$Point" (26 : Nat) ({ cls := "CoinJudge$Big", name := "isZero", desc := "()Z" } : Jvm.MethodName)) ∈ lw_all := lw_g (lw_at lw_m6 117 rfl) rfl
theorem q1467 : (Jvm.Cond.methodLink "CoinJudge$Curve" (139 : Nat) ({ cls := "CoinJudge$Curve", name := "add", desc := "(LCoinJudge$Point;LCoinJudge$Point;)V" } : Jvm.MethodName)) ∈ lw_all := lw_g (lw_at lw_m6 118 rfl) rfl
theorem q1468 : (Jvm.Cond.privateMethod ({ cls := "CoinJudge$Curve", name := "add", desc := "(LCoinJudge$Point;LCoinJudge$Point;)V" } : Jvm.MethodName)) ∈ lw_tbl := lw_at lw_m6 119 rfl
theorem q1469 : (Jvm.Cond.instanceMethod ({ cls := "CoinJudge$Curve", name := "add", desc := "(LCoinJudge$Point;LCoinJudge$Point;)V" } : Jvm.MethodName)) ∈ lw_all := lw_g (lw_at lw_m6 120 rfl) rfl
theorem q1470 : (Jvm.Cond.code ({ cls := "CoinJudge$Curve", name := "add", desc := "(LCoinJudge$Point;LCoinJudge$Point;)V" } : Jvm.MethodName) prog_7_method_4_code (3 : Nat) (Option.none : Option Jvm.ClassFile.FieldType)) ∈ lw_all := lw_g (lw_at lw_m6 121 rfl) rfl
theorem q1471 : (Jvm.Cond.methodLink "CoinJudge$Curve" (116 : Nat) ({ cls := "CoinJudge$Point", name := "copy", desc := "(LCoinJudge$Point;)LCoinJudge$Point;" } : Jvm.MethodName)) ∈ lw_all := lw_g (lw_at lw_m6 122 rfl) rfl
theorem q1472 : (Jvm.Cond.instanceMethod ({ cls := "CoinJudge$Point", name := "copy", desc := "(LCoinJudge$Point;)LCoinJudge$Point;" } : Jvm.MethodName)) ∈ lw_all := lw_g (lw_at lw_m6 123 rfl) rfl
theorem q1473 : (Jvm.Cond.selects "CoinJudge$Point" ({ cls := "CoinJudge$Point", name := "copy", desc := "(LCoinJudge$Point;)LCoinJudge$Point;" } : Jvm.MethodName) ({ cls := "CoinJudge$Point", name := "copy", desc := "(LCoinJudge$Point;)LCoinJudge$Point;" } : Jvm.MethodName)) ∈ lw_all := lw_g (lw_at lw_m6 124 rfl) rfl
theorem q1474 : (Jvm.Cond.code ({ cls := "CoinJudge$Point", name := "copy", desc := "(LCoinJudge$Point;)LCoinJudge$Point;" } : Jvm.MethodName) prog_17_method_2_code (2 : Nat) (Option.some (Jvm.ClassFile.FieldType.object "CoinJudge$Point"))) ∈ lw_all := lw_g (lw_at lw_m6 125 rfl) rfl
theorem q1475 : (Jvm.Cond.methodLink "CoinJudge$Point" (22 : Nat) ({ cls := "CoinJudge$Big", name := "copy", desc := "(LCoinJudge$Big;)LCoinJudge$Big;" } : Jvm.MethodName)) ∈ lw_all := lw_g (lw_at lw_m6 126 rfl) rfl
theorem q1476 : (Jvm.Cond.methodLink "CoinJudge$Curve" (188 : Nat) ({ cls := "CoinJudge$Curve", name := "plain", desc := "(LCoinJudge$Point;)V" } : Jvm.MethodName)) ∈ lw_all := lw_g (lw_at lw_m6 127 rfl) rfl
theorem q1477 : (Jvm.Cond.privateMethod ({ cls := "CoinJudge$Curve", name := "plain", desc := "(LCoinJudge$Point;)V" } : Jvm.MethodName)) ∈ lw_tbl := lw_at lw_m6 128 rfl
theorem q1478 : (Jvm.Cond.instanceMethod ({ cls := "CoinJudge$Curve", name := "plain", desc := "(LCoinJudge$Point;)V" } : Jvm.MethodName)) ∈ lw_all := lw_g (lw_at lw_m6 129 rfl) rfl
theorem q1479 : (Jvm.Cond.code ({ cls := "CoinJudge$Curve", name := "plain", desc := "(LCoinJudge$Point;)V" } : Jvm.MethodName) prog_7_method_6_code (2 : Nat) (Option.none : Option Jvm.ClassFile.FieldType)) ∈ lw_all := lw_g (lw_at lw_m6 130 rfl) rfl
theorem q1480 : (Jvm.Cond.methodLink "CoinJudge$Machine" (157 : Nat) ({ cls := "CoinJudge$Machine", name := "truth", desc := "(Z)V" } : Jvm.MethodName)) ∈ lw_all := lw_g (lw_at lw_m6 131 rfl) rfl
theorem q1481 : (Jvm.Cond.privateMethod ({ cls := "CoinJudge$Machine", name := "truth", desc := "(Z)V" } : Jvm.MethodName)) ∈ lw_tbl := lw_at lw_m6 132 rfl
theorem q1482 : (Jvm.Cond.instanceMethod ({ cls := "CoinJudge$Machine", name := "truth", desc := "(Z)V" } : Jvm.MethodName)) ∈ lw_all := lw_g (lw_at lw_m6 133 rfl) rfl
theorem q1483 : (Jvm.Cond.code ({ cls := "CoinJudge$Machine", name := "truth", desc := "(Z)V" } : Jvm.MethodName) prog_15_method_17_code (2 : Nat) (Option.none : Option Jvm.ClassFile.FieldType)) ∈ lw_all := lw_g (lw_at lw_m6 134 rfl) rfl
theorem q1484 : (Jvm.Cond.methodLink "CoinJudge$Machine" (126 : Nat) ({ cls := "CoinJudge$Element", name := "be", desc := "(J)V" } : Jvm.MethodName)) ∈ lw_all := lw_g (lw_at lw_m6 135 rfl) rfl
theorem q1485 : (Jvm.Cond.instanceMethod ({ cls := "CoinJudge$Element", name := "be", desc := "(J)V" } : Jvm.MethodName)) ∈ lw_all := lw_g (lw_at lw_m6 136 rfl) rfl
theorem q1486 : (Jvm.Cond.selects "CoinJudge$Element" ({ cls := "CoinJudge$Element", name := "be", desc := "(J)V" } : Jvm.MethodName) ({ cls := "CoinJudge$Element", name := "be", desc := "(J)V" } : Jvm.MethodName)) ∈ lw_all := lw_g (lw_at lw_m6 137 rfl) rfl
theorem q1487 : (Jvm.Cond.code ({ cls := "CoinJudge$Element", name := "be", desc := "(J)V" } : Jvm.MethodName) prog_13_method_5_code (5 : Nat) (Option.none : Option Jvm.ClassFile.FieldType)) ∈ lw_all := lw_g (lw_at lw_m6 138 rfl) rfl
theorem q1488 : (Jvm.Cond.methodLink "CoinJudge$Machine" (140 : Nat) ({ cls := "CoinJudge$Machine", name := "verify", desc := "()V" } : Jvm.MethodName)) ∈ lw_all := lw_g (lw_at lw_m6 139 rfl) rfl
theorem q1489 : (Jvm.Cond.privateMethod ({ cls := "CoinJudge$Machine", name := "verify", desc := "()V" } : Jvm.MethodName)) ∈ lw_tbl := lw_at lw_m6 140 rfl
theorem q1490 : (Jvm.Cond.instanceMethod ({ cls := "CoinJudge$Machine", name := "verify", desc := "()V" } : Jvm.MethodName)) ∈ lw_all := lw_g (lw_at lw_m6 141 rfl) rfl
theorem q1491 : (Jvm.Cond.code ({ cls := "CoinJudge$Machine", name := "verify", desc := "()V" } : Jvm.MethodName) prog_15_method_16_code (1 : Nat) (Option.none : Option Jvm.ClassFile.FieldType)) ∈ lw_all := lw_g (lw_at lw_m6 142 rfl) rfl
theorem q1492 : (Jvm.Cond.methodLink "CoinJudge$Machine" (118 : Nat) ({ cls := "CoinJudge$Machine", name := "several", desc := "(ILCoinJudge$Signed;[BIII)I" } : Jvm.MethodName)) ∈ lw_all := lw_g (lw_at lw_m6 143 rfl) rfl
theorem q1493 : (Jvm.Cond.privateMethod ({ cls := "CoinJudge$Machine", name := "several", desc := "(ILCoinJudge$Signed;[BIII)I" } : Jvm.MethodName)) ∈ lw_tbl := lw_at lw_m6 144 rfl
theorem q1494 : (Jvm.Cond.instanceMethod ({ cls := "CoinJudge$Machine", name := "several", desc := "(ILCoinJudge$Signed;[BIII)I" } : Jvm.MethodName)) ∈ lw_all := lw_g (lw_at lw_m6 145 rfl) rfl
theorem q1495 : (Jvm.Cond.code ({ cls := "CoinJudge$Machine", name := "several", desc := "(ILCoinJudge$Signed;[BIII)I" } : Jvm.MethodName) prog_15_method_26_code (20 : Nat) (Option.some Jvm.ClassFile.FieldType.int)) ∈ lw_all := lw_g (lw_at lw_m6 146 rfl) rfl
theorem q1496 : (Jvm.Cond.methodLink "CoinJudge$Machine" (149 : Nat) ({ cls := "CoinJudge$Element", name := "number", desc := "(I)J" } : Jvm.MethodName)) ∈ lw_all := lw_g (lw_at lw_m6 147 rfl) rfl
theorem q1497 : (Jvm.Cond.instanceMethod ({ cls := "CoinJudge$Element", name := "number", desc := "(I)J" } : Jvm.MethodName)) ∈ lw_all := lw_g (lw_at lw_m6 148 rfl) rfl
theorem q1498 : (Jvm.Cond.selects "CoinJudge$Element" ({ cls := "CoinJudge$Element", name := "number", desc := "(I)J" } : Jvm.MethodName) ({ cls := "CoinJudge$Element", name := "number", desc := "(I)J" } : Jvm.MethodName)) ∈ lw_all := lw_g (lw_at lw_m6 149 rfl) rfl
theorem q1499 : (Jvm.Cond.code ({ cls := "CoinJudge$Element", name := "number", desc := "(I)J" } : Jvm.MethodName) prog_13_method_4_code (5 : Nat) (Option.some Jvm.ClassFile.FieldType.long)) ∈ lw_all := lw_g (lw_at lw_m6 150 rfl) rfl
theorem q1500 : (Jvm.Cond.classLink "CoinJudge$Element" (17 : Nat) "CoinJudge$Broken") ∈ lw_all := lw_g (lw_at lw_m6 151 rfl) rfl
theorem q1501 : (Jvm.Cond.methodLinkNest "CoinJudge$Element" (19 : Nat) ({ cls := "CoinJudge$Broken", name := "<init>", desc := "()V" } : Jvm.MethodName) "CoinJudge") ∈ lw_tbl := lw_at lw_m6 152 rfl
theorem q1502 : (Jvm.Cond.constantLong "CoinJudge$Machine" (224 : Nat) (20 : Int64)) ∈ lw_all := lw_g (lw_at lw_m6 153 rfl) rfl
theorem q1503 : (Jvm.Cond.constantLong "CoinJudge$Machine" (226 : Nat) (201 : Int64)) ∈ lw_all := lw_g (lw_at lw_m6 154 rfl) rfl
theorem q1504 : (Jvm.Cond.methodLink "CoinJudge$Machine" (122 : Nat) ({ cls := "CoinJudge$Machine", name := "step", desc := "(ILCoinJudge$Signed;)V" } : Jvm.MethodName)) ∈ lw_all := lw_g (lw_at lw_m6 155 rfl) rfl
theorem q1505 : (Jvm.Cond.privateMethod ({ cls := "CoinJudge$Machine", name := "step", desc := "(ILCoinJudge$Signed;)V" } : Jvm.MethodName)) ∈ lw_tbl := lw_at lw_m6 156 rfl
theorem q1506 : (Jvm.Cond.instanceMethod ({ cls := "CoinJudge$Machine", name := "step", desc := "(ILCoinJudge$Signed;)V" } : Jvm.MethodName)) ∈ lw_all := lw_g (lw_at lw_m6 157 rfl) rfl
theorem q1507 : (Jvm.Cond.code ({ cls := "CoinJudge$Machine", name := "step", desc := "(ILCoinJudge$Signed;)V" } : Jvm.MethodName) prog_15_method_18_code (9 : Nat) (Option.none : Option Jvm.ClassFile.FieldType)) ∈ lw_all := lw_g (lw_at lw_m6 158 rfl) rfl
theorem q1508 : (Jvm.Cond.constantLong "CoinJudge$Machine" (130 : Nat) (-1 : Int64)) ∈ lw_all := lw_g (lw_at lw_m6 159 rfl) rfl
theorem q1509 : (Jvm.Cond.constantLong "CoinJudge$Machine" (132 : Nat) (80 : Int64)) ∈ lw_all := lw_g (lw_at lw_m6 160 rfl) rfl
theorem q1510 : (Jvm.Cond.methodLink "CoinJudge$Machine" (134 : Nat) ({ cls := "CoinJudge$Machine", name := "numbers", desc := "(I)V" } : Jvm.MethodName)) ∈ lw_all := lw_g (lw_at lw_m6 161 rfl) rfl
theorem q1511 : (Jvm.Cond.privateMethod ({ cls := "CoinJudge$Machine", name := "numbers", desc := "(I)V" } : Jvm.MethodName)) ∈ lw_tbl := lw_at lw_m6 162 rfl
theorem q1512 : (Jvm.Cond.instanceMethod ({ cls := "CoinJudge$Machine", name := "numbers", desc := "(I)V" } : Jvm.MethodName)) ∈ lw_all := lw_g (lw_at lw_m6 163 rfl) rfl
theorem q1513 : (Jvm.Cond.code ({ cls := "CoinJudge$Machine", name := "numbers", desc := "(I)V" } : Jvm.MethodName) prog_15_method_20_code (8 : Nat) (Option.none : Option Jvm.ClassFile.FieldType)) ∈ lw_all := lw_g (lw_at lw_m6 164 rfl) rfl
theorem q1514 : (Jvm.Cond.methodLink "CoinJudge$Machine" (177 : Nat) ({ cls := "java/lang/Math", name := "abs", desc := "(J)J" } : Jvm.MethodName)) ∈ lw_all := lw_g (lw_at lw_m6 165 rfl) rfl
theorem q1515 : (Jvm.Cond.static ({ cls := "java/lang/Math", name := "abs", desc := "(J)J" } : Jvm.MethodName)) ∈ lw_all := lw_g (lw_at lw_m6 166 rfl) rfl
theorem q1516 : (Jvm.Cond.code ({ cls := "java/lang/Math", name := "abs", desc := "(J)J" } : Jvm.MethodName) prog_42_method_61_code (2 : Nat) (Option.some Jvm.ClassFile.FieldType.long)) ∈ lw_all := lw_g (lw_at lw_m6 167 rfl) rfl
theorem q1517 : (Jvm.Cond.methodLink "CoinJudge$Machine" (183 : Nat) ({ cls := "java/lang/Math", name := "min", desc := "(JJ)J" } : Jvm.MethodName)) ∈ lw_all := lw_g (lw_at lw_m6 168 rfl) rfl
theorem q1518 : (Jvm.Cond.methodLink "CoinJudge$Machine" (187 : Nat) ({ cls := "java/lang/Math", name := "max", desc := "(JJ)J" } : Jvm.MethodName)) ∈ lw_all := lw_g (lw_at lw_m6 169 rfl) rfl
theorem q1519 : (Jvm.Cond.methodLink "CoinJudge$Machine" (137 : Nat) ({ cls := "CoinJudge$Machine", name := "digested", desc := "(I)V" } : Jvm.MethodName)) ∈ lw_all := lw_g (lw_at lw_m6 170 rfl) rfl
theorem q1520 : (Jvm.Cond.privateMethod ({ cls := "CoinJudge$Machine", name := "digested", desc := "(I)V" } : Jvm.MethodName)) ∈ lw_tbl := lw_at lw_m6 171 rfl
theorem q1521 : (Jvm.Cond.instanceMethod ({ cls := "CoinJudge$Machine", name := "digested", desc := "(I)V" } : Jvm.MethodName)) ∈ lw_all := lw_g (lw_at lw_m6 172 rfl) rfl
theorem q1522 : (Jvm.Cond.code ({ cls := "CoinJudge$Machine", name := "digested", desc := "(I)V" } : Jvm.MethodName) prog_15_method_21_code (4 : Nat) (Option.none : Option Jvm.ClassFile.FieldType)) ∈ lw_all := lw_g (lw_at lw_m6 173 rfl) rfl
theorem q1523 : (Jvm.Cond.methodLink "CoinJudge$Machine" (190 : Nat) ({ cls := "CoinJudge$Digests", name := "ripe", desc := "([BII[BI)V" } : Jvm.MethodName)) ∈ lw_all := lw_g (lw_at lw_m6 174 rfl) rfl
theorem q1524 : (Jvm.Cond.instanceMethod ({ cls := "CoinJudge$Digests", name := "ripe", desc := "([BII[BI)V" } : Jvm.MethodName)) ∈ lw_all := lw_g (lw_at lw_m6 175 rfl) rfl
theorem q1525 : (Jvm.Cond.selects "CoinJudge$Digests" ({ cls := "CoinJudge$Digests", name := "ripe", desc := "([BII[BI)V" } : Jvm.MethodName) ({ cls := "CoinJudge$Digests", name := "ripe", desc := "([BII[BI)V" } : Jvm.MethodName)) ∈ lw_all := lw_g (lw_at lw_m6 176 rfl) rfl
theorem q1526 : (Jvm.Cond.code ({ cls := "CoinJudge$Digests", name := "ripe", desc := "([BII[BI)V" } : Jvm.MethodName) prog_8_method_13_code (7 : Nat) (Option.none : Option Jvm.ClassFile.FieldType)) ∈ lw_all := lw_g (lw_at lw_m6 177 rfl) rfl
theorem q1527 : (Jvm.Cond.constant "CoinJudge$Digests" (123 : Nat) (1732584193 : Int32)) ∈ lw_all := lw_g (lw_at lw_m6 178 rfl) rfl
theorem q1528 : (Jvm.Cond.constant "CoinJudge$Digests" (124 : Nat) (-271733879 : Int32)) ∈ lw_all := lw_g (lw_at lw_m6 179 rfl) rfl
theorem q1529 : (Jvm.Cond.constant "CoinJudge$Digests" (125 : Nat) (-1732584194 : Int32)) ∈ lw_all := lw_g (lw_at lw_m6 180 rfl) rfl
theorem q1530 : (Jvm.Cond.constant "CoinJudge$Digests" (126 : Nat) (271733878 : Int32)) ∈ lw_all := lw_g (lw_at lw_m6 181 rfl) rfl
theorem q1531 : (Jvm.Cond.constant "CoinJudge$Digests" (127 : Nat) (-1009589776 : Int32)) ∈ lw_all := lw_g (lw_at lw_m6 182 rfl) rfl
theorem q1532 : (Jvm.Cond.methodLink "CoinJudge$Machine" (196 : Nat) ({ cls := "CoinJudge$Digests", name := "sha", desc := "([BII[BI)V" } : Jvm.MethodName)) ∈ lw_all := lw_g (lw_at lw_m6 183 rfl) rfl
theorem q1533 : (Jvm.Cond.methodLink "CoinJudge$Machine" (199 : Nat) ({ cls := "CoinJudge$Digests", name := "hash160", desc := "([BII[BI)V" } : Jvm.MethodName)) ∈ lw_all := lw_g (lw_at lw_m6 184 rfl) rfl
theorem q1534 : (Jvm.Cond.instanceMethod ({ cls := "CoinJudge$Digests", name := "hash160", desc := "([BII[BI)V" } : Jvm.MethodName)) ∈ lw_all := lw_g (lw_at lw_m6 185 rfl) rfl
theorem q1535 : (Jvm.Cond.selects "CoinJudge$Digests" ({ cls := "CoinJudge$Digests", name := "hash160", desc := "([BII[BI)V" } : Jvm.MethodName) ({ cls := "CoinJudge$Digests", name := "hash160", desc := "([BII[BI)V" } : Jvm.MethodName)) ∈ lw_all := lw_g (lw_at lw_m6 186 rfl) rfl
theorem q1536 : (Jvm.Cond.code ({ cls := "CoinJudge$Digests", name := "hash160", desc := "([BII[BI)V" } : Jvm.MethodName) prog_8_method_14_code (6 : Nat) (Option.none : Option Jvm.ClassFile.FieldType)) ∈ lw_all := lw_g (lw_at lw_m6 187 rfl) rfl
theorem q1537 : (Jvm.Cond.methodLink "CoinJudge$Digests" (128 : Nat) ({ cls := "CoinJudge$Digests", name := "ripe", desc := "([BII[BI)V" } : Jvm.MethodName)) ∈ lw_all := lw_g (lw_at lw_m6 188 rfl) rfl
theorem q1538 : (Jvm.Cond.methodLink "CoinJudge$Machine" (202 : Nat) ({ cls := "CoinJudge$Digests", name := "twice", desc := "([BII[BI)V" } : Jvm.MethodName)) ∈ lw_all := lw_g (lw_at lw_m6 189 rfl) rfl
theorem q1539 : (Jvm.Cond.methodLink "CoinJudge$Machine" (143 : Nat) ({ cls := "CoinJudge$Machine", name := "copy", desc := "(I)V" } : Jvm.MethodName)) ∈ lw_all := lw_g (lw_at lw_m6 190 rfl) rfl
theorem q1540 : (Jvm.Cond.privateMethod ({ cls := "CoinJudge$Machine", name := "copy", desc := "(I)V" } : Jvm.MethodName)) ∈ lw_tbl := lw_at lw_m6 191 rfl
theorem q1541 : (Jvm.Cond.instanceMethod ({ cls := "CoinJudge$Machine", name := "copy", desc := "(I)V" } : Jvm.MethodName)) ∈ lw_all := lw_g (lw_at lw_m6 192 rfl) rfl
theorem q1542 : (Jvm.Cond.code ({ cls := "CoinJudge$Machine", name := "copy", desc := "(I)V" } : Jvm.MethodName) prog_15_method_6_code (3 : Nat) (Option.none : Option Jvm.ClassFile.FieldType)) ∈ lw_all := lw_g (lw_at lw_m6 193 rfl) rfl
theorem q1543 : (Jvm.Cond.methodLink "CoinJudge$Machine" (146 : Nat) ({ cls := "CoinJudge$Machine", name := "roll", desc := "(I)V" } : Jvm.MethodName)) ∈ lw_all := lw_g (lw_at lw_m6 194 rfl) rfl
theorem q1544 : (Jvm.Cond.privateMethod ({ cls := "CoinJudge$Machine", name := "roll", desc := "(I)V" } : Jvm.MethodName)) ∈ lw_tbl := lw_at lw_m6 195 rfl
theorem q1545 : (Jvm.Cond.instanceMethod ({ cls := "CoinJudge$Machine", name := "roll", desc := "(I)V" } : Jvm.MethodName)) ∈ lw_all := lw_g (lw_at lw_m6 196 rfl) rfl
theorem q1546 : (Jvm.Cond.code ({ cls := "CoinJudge$Machine", name := "roll", desc := "(I)V" } : Jvm.MethodName) prog_15_method_7_code (4 : Nat) (Option.none : Option Jvm.ClassFile.FieldType)) ∈ lw_all := lw_g (lw_at lw_m6 197 rfl) rfl
theorem q1547 : (Jvm.Cond.methodLink "CoinJudge$Machine" (153 : Nat) ({ cls := "CoinJudge$Element", name := "same", desc := "(LCoinJudge$Element;)Z" } : Jvm.MethodName)) ∈ lw_all := lw_g (lw_at lw_m6 198 rfl) rfl
theorem q1548 : (Jvm.Cond.instanceMethod ({ cls := "CoinJudge$Element", name := "same", desc := "(LCoinJudge$Element;)Z" } : Jvm.MethodName)) ∈ lw_all := lw_g (lw_at lw_m6 199 rfl) rfl
theorem q1549 : (Jvm.Cond.selects "CoinJudge$Element" ({ cls := "CoinJudge$Element", name := "same", desc := "(LCoinJudge$Element;)Z" } : Jvm.MethodName) ({ cls := "CoinJudge$Element", name := "same", desc := "(LCoinJudge$Element;)Z" } : Jvm.MethodName)) ∈ lw_all := lw_g (lw_at lw_m6 200 rfl) rfl
theorem q1550 : (Jvm.Cond.code ({ cls := "CoinJudge$Element", name := "same", desc := "(LCoinJudge$Element;)Z" } : Jvm.MethodName) prog_13_method_6_code (3 : Nat) (Option.some Jvm.ClassFile.FieldType.boolean)) ∈ lw_all := lw_g (lw_at lw_m6 201 rfl) rfl
theorem q1551 : (Jvm.Cond.methodLink "CoinJudge$Machine" (160 : Nat) ({ cls := "CoinJudge$Machine", name := "later", desc := "(LCoinJudge$Signed;)V" } : Jvm.MethodName)) ∈ lw_all := lw_g (lw_at lw_m6 202 rfl) rfl
theorem q1552 : (Jvm.Cond.privateMethod ({ cls := "CoinJudge$Machine", name := "later", desc := "(LCoinJudge$Signed;)V" } : Jvm.MethodName)) ∈ lw_tbl := lw_at lw_m6 203 rfl
theorem q1553 : (Jvm.Cond.instanceMethod ({ cls := "CoinJudge$Machine", name := "later", desc := "(LCoinJudge$Signed;)V" } : Jvm.MethodName)) ∈ lw_all := lw_g (lw_at lw_m6 204 rfl) rfl
theorem q1554 : (Jvm.Cond.code ({ cls := "CoinJudge$Machine", name := "later", desc := "(LCoinJudge$Signed;)V" } : Jvm.MethodName) prog_15_method_19_code (4 : Nat) (Option.none : Option Jvm.ClassFile.FieldType)) ∈ lw_all := lw_g (lw_at lw_m6 205 rfl) rfl
theorem q1555 : (Jvm.Cond.constantLong "CoinJudge$Machine" (164 : Nat) (500000000 : Int64)) ∈ lw_all := lw_g (lw_at lw_m6 206 rfl) rfl
theorem q1556 : (Jvm.Cond.interfaceEntry "CoinJudge$Machine" (166 : Nat)) ∈ lw_tbl := lw_at lw_m6 207 rfl
theorem q1557 : (Jvm.Cond.methodLink "CoinJudge$Machine" (166 : Nat) ({ cls := "CoinJudge$Signed", name := "lock", desc := "()J" } : Jvm.MethodName)) ∈ lw_all := lw_g (lw_at lw_m6 208 rfl) rfl
theorem q1558 : (Jvm.Cond.interfaceMethod "CoinJudge$Signed" "CoinJudge$Signed" "lock" "()J") ∈ lw_tbl := lw_at lw_m6 209 rfl
theorem q1559 : (Jvm.Cond.declares ({ cls := "CoinJudge$Signed", name := "lock", desc := "()J" } : Jvm.MethodName)) ∈ lw_tbl := lw_at lw_m6 210 rfl
theorem q1560 : (Jvm.Cond.selects "CoinJudge$Signing" ({ cls := "CoinJudge$Signed", name := "lock", desc := "()J" } : Jvm.MethodName) ({ cls := "CoinJudge$Signing", name := "lock", desc := "()J" } : Jvm.MethodName)) ∈ lw_all := lw_g (lw_at lw_m6 211 rfl) rfl
theorem q1561 : (Jvm.Cond.unhidden "CoinJudge$Signing" "lock" "()J") ∈ lw_tbl := lw_at lw_m6 212 rfl
theorem q1562 : (Jvm.Cond.instanceMethod ({ cls := "CoinJudge$Signing", name := "lock", desc := "()J" } : Jvm.MethodName)) ∈ lw_all := lw_g (lw_at lw_m6 213 rfl) rfl
theorem q1563 : (Jvm.Cond.publicMethod ({ cls := "CoinJudge$Signing", name := "lock", desc := "()J" } : Jvm.MethodName)) ∈ lw_tbl := lw_at lw_m6 214 rfl
theorem q1564 : (Jvm.Cond.code ({ cls := "CoinJudge$Signing", name := "lock", desc := "()J" } : Jvm.MethodName) prog_21_method_11_code (1 : Nat) (Option.some Jvm.ClassFile.FieldType.long)) ∈ lw_all := lw_g (lw_at lw_m6 215 rfl) rfl
theorem q1565 : (Jvm.Cond.interfaceEntry "CoinJudge$Machine" (172 : Nat)) ∈ lw_tbl := lw_at lw_m6 216 rfl
theorem q1566 : (Jvm.Cond.methodLink "CoinJudge$Machine" (172 : Nat) ({ cls := "CoinJudge$Signed", name := "sequence", desc := "()J" } : Jvm.MethodName)) ∈ lw_all := lw_g (lw_at lw_m6 217 rfl) rfl
theorem q1567 : (Jvm.Cond.interfaceMethod "CoinJudge$Signed" "CoinJudge$Signed" "sequence" "()J") ∈ lw_tbl := lw_at lw_m6 218 rfl
theorem q1568 : (Jvm.Cond.declares ({ cls := "CoinJudge$Signed", name := "sequence", desc := "()J" } : Jvm.MethodName)) ∈ lw_tbl := lw_at lw_m6 219 rfl
theorem q1569 : (Jvm.Cond.selects "CoinJudge$Signing" ({ cls := "CoinJudge$Signed", name := "sequence", desc := "()J" } : Jvm.MethodName) ({ cls := "CoinJudge$Signing", name := "sequence", desc := "()J" } : Jvm.MethodName)) ∈ lw_all := lw_g (lw_at lw_m6 220 rfl) rfl
theorem q1570 : (Jvm.Cond.unhidden "CoinJudge$Signing" "sequence" "()J") ∈ lw_tbl := lw_at lw_m6 221 rfl
theorem q1571 : (Jvm.Cond.instanceMethod ({ cls := "CoinJudge$Signing", name := "sequence", desc := "()J" } : Jvm.MethodName)) ∈ lw_all := lw_g (lw_at lw_m6 222 rfl) rfl
theorem q1572 : (Jvm.Cond.publicMethod ({ cls := "CoinJudge$Signing", name := "sequence", desc := "()J" } : Jvm.MethodName)) ∈ lw_tbl := lw_at lw_m6 223 rfl
theorem q1573 : (Jvm.Cond.code ({ cls := "CoinJudge$Signing", name := "sequence", desc := "()J" } : Jvm.MethodName) prog_21_method_12_code (1 : Nat) (Option.some Jvm.ClassFile.FieldType.long)) ∈ lw_all := lw_g (lw_at lw_m6 224 rfl) rfl
theorem q1574 : (Jvm.Cond.constantLong "CoinJudge$Machine" (175 : Nat) (4294967295 : Int64)) ∈ lw_all := lw_g (lw_at lw_m6 225 rfl) rfl
theorem q1575 : (Jvm.Cond.methodLink "CoinJudge$Machine" (87 : Nat) ({ cls := "CoinJudge$Machine", name := "pushes", desc := "([BII)Z" } : Jvm.MethodName)) ∈ lw_all := lw_g (lw_at lw_m6 226 rfl) rfl
theorem q1576 : (Jvm.Cond.static ({ cls := "CoinJudge$Machine", name := "pushes", desc := "([BII)Z" } : Jvm.MethodName)) ∈ lw_all := lw_g (lw_at lw_m6 227 rfl) rfl
theorem q1577 : (Jvm.Cond.code ({ cls := "CoinJudge$Machine", name := "pushes", desc := "([BII)Z" } : Jvm.MethodName) prog_15_method_11_code (4 : Nat) (Option.some Jvm.ClassFile.FieldType.boolean)) ∈ lw_all := lw_g (lw_at lw_m6 228 rfl) rfl
theorem q1578 : (Jvm.Cond.methodLink "CoinJudge" (456 : Nat) ({ cls := "CoinJudge", name := "spend", desc := "(LCoinJudge$Block;LCoinJudge$Tx;Z)V" } : Jvm.MethodName)) ∈ lw_all := lw_g (lw_at lw_m6 229 rfl) rfl
theorem q1579 : (Jvm.Cond.privateMethod ({ cls := "CoinJudge", name := "spend", desc := "(LCoinJudge$Block;LCoinJudge$Tx;Z)V" } : Jvm.MethodName)) ∈ lw_tbl := lw_at lw_m6 230 rfl
theorem q1580 : (Jvm.Cond.instanceMethod ({ cls := "CoinJudge", name := "spend", desc := "(LCoinJudge$Block;LCoinJudge$Tx;Z)V" } : Jvm.MethodName)) ∈ lw_all := lw_g (lw_at lw_m6 231 rfl) rfl
theorem q1581 : (Jvm.Cond.code ({ cls := "CoinJudge", name := "spend", desc := "(LCoinJudge$Block;LCoinJudge$Tx;Z)V" } : Jvm.MethodName) prog_1_method_26_code (8 : Nat) (Option.none : Option Jvm.ClassFile.FieldType)) ∈ lw_all := lw_g (lw_at lw_m6 232 rfl) rfl
theorem q1582 : (Jvm.Cond.interfaceEntry "CoinJudge" (487 : Nat)) ∈ lw_tbl := lw_at lw_m6 233 rfl
theorem q1583 : (Jvm.Cond.methodLink "CoinJudge" (487 : Nat) ({ cls := "java/util/List", name := "add", desc := "(Ljava/lang/Object;)Z" } : Jvm.MethodName)) ∈ lw_all := lw_g (lw_at lw_m6 234 rfl) rfl
theorem q1584 : (Jvm.Cond.interfaceMethod "java/util/List" "java/util/List" "add" "(Ljava/lang/Object;)Z") ∈ lw_tbl := lw_at lw_m6 235 rfl
theorem q1585 : (Jvm.Cond.declares ({ cls := "java/util/List", name := "add", desc := "(Ljava/lang/Object;)Z" } : Jvm.MethodName)) ∈ lw_tbl := lw_at lw_m6 236 rfl
theorem q1586 : (Jvm.Cond.selects "java/util/ArrayList" ({ cls := "java/util/List", name := "add", desc := "(Ljava/lang/Object;)Z" } : Jvm.MethodName) ({ cls := "java/util/ArrayList", name := "add", desc := "(Ljava/lang/Object;)Z" } : Jvm.MethodName)) ∈ lw_all := lw_g (lw_at lw_m6 237 rfl) rfl
theorem q1587 : (Jvm.Cond.unhidden "java/util/ArrayList" "add" "(Ljava/lang/Object;)Z") ∈ lw_tbl := lw_at lw_m6 238 rfl
theorem q1588 : (Jvm.Cond.instanceMethod ({ cls := "java/util/ArrayList", name := "add", desc := "(Ljava/lang/Object;)Z" } : Jvm.MethodName)) ∈ lw_all := lw_g (lw_at lw_m6 239 rfl) rfl
theorem q1589 : (Jvm.Cond.publicMethod ({ cls := "java/util/ArrayList", name := "add", desc := "(Ljava/lang/Object;)Z" } : Jvm.MethodName)) ∈ lw_tbl := lw_at lw_m7 0 rfl
theorem q1590 : (Jvm.Cond.code ({ cls := "java/util/ArrayList", name := "add", desc := "(Ljava/lang/Object;)Z" } : Jvm.MethodName) prog_52_method_25_code (2 : Nat) (Option.some Jvm.ClassFile.FieldType.boolean)) ∈ lw_all := lw_g (lw_at lw_m7 1 rfl) rfl
theorem q1591 : (Jvm.Cond.methodLink "java/util/ArrayList" (131 : Nat) ({ cls := "java/util/ArrayList", name := "add", desc := "(Ljava/lang/Object;[Ljava/lang/Object;I)V" } : Jvm.MethodName)) ∈ lw_all := lw_g (lw_at lw_m7 2 rfl) rfl
theorem q1592 : (Jvm.Cond.privateMethod ({ cls := "java/util/ArrayList", name := "add", desc := "(Ljava/lang/Object;[Ljava/lang/Object;I)V" } : Jvm.MethodName)) ∈ lw_tbl := lw_at lw_m7 3 rfl
theorem q1593 : (Jvm.Cond.instanceMethod ({ cls := "java/util/ArrayList", name := "add", desc := "(Ljava/lang/Object;[Ljava/lang/Object;I)V" } : Jvm.MethodName)) ∈ lw_all := lw_g (lw_at lw_m7 4 rfl) rfl
theorem q1594 : (Jvm.Cond.code ({ cls := "java/util/ArrayList", name := "add", desc := "(Ljava/lang/Object;[Ljava/lang/Object;I)V" } : Jvm.MethodName) prog_52_method_24_code (4 : Nat) (Option.none : Option Jvm.ClassFile.FieldType)) ∈ lw_all := lw_g (lw_at lw_m7 5 rfl) rfl
theorem q1595 : (Jvm.Cond.methodLink "java/util/ArrayList" (129 : Nat) ({ cls := "java/util/ArrayList", name := "grow", desc := "()[Ljava/lang/Object;" } : Jvm.MethodName)) ∈ lw_all := lw_g (lw_at lw_m7 6 rfl) rfl
theorem q1596 : (Jvm.Cond.privateMethod ({ cls := "java/util/ArrayList", name := "grow", desc := "()[Ljava/lang/Object;" } : Jvm.MethodName)) ∈ lw_tbl := lw_at lw_m7 7 rfl
theorem q1597 : (Jvm.Cond.instanceMethod ({ cls := "java/util/ArrayList", name := "grow", desc := "()[Ljava/lang/Object;" } : Jvm.MethodName)) ∈ lw_all := lw_g (lw_at lw_m7 8 rfl) rfl
theorem q1598 : (Jvm.Cond.code ({ cls := "java/util/ArrayList", name := "grow", desc := "()[Ljava/lang/Object;" } : Jvm.MethodName) prog_52_method_7_code (1 : Nat) (Option.some (Jvm.ClassFile.FieldType.array (Jvm.ClassFile.FieldType.object "java/lang/Object")))) ∈ lw_all := lw_g (lw_at lw_m7 9 rfl) rfl
theorem q1599 : (Jvm.Cond.methodLink "java/util/ArrayList" (69 : Nat) ({ cls := "java/util/ArrayList", name := "grow", desc := "(I)[Ljava/lang/Object;" } : Jvm.MethodName)) ∈ lw_all := lw_g (lw_at lw_m7 10 rfl) rfl
theorem q1600 : (Jvm.Cond.privateMethod ({ cls := "java/util/ArrayList", name := "grow", desc := "(I)[Ljava/lang/Object;" } : Jvm.MethodName)) ∈ lw_tbl := lw_at lw_m7 11 rfl
theorem q1601 : (Jvm.Cond.instanceMethod ({ cls := "java/util/ArrayList", name := "grow", desc := "(I)[Ljava/lang/Object;" } : Jvm.MethodName)) ∈ lw_all := lw_g (lw_at lw_m7 12 rfl) rfl
theorem q1602 : (Jvm.Cond.code ({ cls := "java/util/ArrayList", name := "grow", desc := "(I)[Ljava/lang/Object;" } : Jvm.MethodName) prog_52_method_6_code (4 : Nat) (Option.some (Jvm.ClassFile.FieldType.array (Jvm.ClassFile.FieldType.object "java/lang/Object")))) ∈ lw_all := lw_g (lw_at lw_m7 13 rfl) rfl
theorem q1603 : (Jvm.Cond.methodLink "java/util/ArrayList" (73 : Nat) ({ cls := "jdk/internal/util/ArraysSupport", name := "newLength", desc := "(III)I" } : Jvm.MethodName)) ∈ lw_all := lw_g (lw_at lw_m7 14 rfl) rfl
theorem q1604 : (Jvm.Cond.static ({ cls := "jdk/internal/util/ArraysSupport", name := "newLength", desc := "(III)I" } : Jvm.MethodName)) ∈ lw_all := lw_g (lw_at lw_m7 15 rfl) rfl
theorem q1605 : (Jvm.Cond.code ({ cls := "jdk/internal/util/ArraysSupport", name := "newLength", desc := "(III)I" } : Jvm.MethodName) prog_59_method_27_code (4 : Nat) (Option.some Jvm.ClassFile.FieldType.int)) ∈ lw_all := lw_g (lw_at lw_m7 16 rfl) rfl
theorem q1606 : (Jvm.Cond.methodLink "jdk/internal/util/ArraysSupport" (194 : Nat) ({ cls := "java/lang/Math", name := "max", desc := "(II)I" } : Jvm.MethodName)) ∈ lw_all := lw_g (lw_at lw_m7 17 rfl) rfl
theorem q1607 : (Jvm.Cond.static ({ cls := "java/lang/Math", name := "max", desc := "(II)I" } : Jvm.MethodName)) ∈ lw_all := lw_g (lw_at lw_m7 18 rfl) rfl
theorem q1608 : (Jvm.Cond.code ({ cls := "java/lang/Math", name := "max", desc := "(II)I" } : Jvm.MethodName) prog_42_method_65_code (2 : Nat) (Option.some Jvm.ClassFile.FieldType.int)) ∈ lw_all := lw_g (lw_at lw_m7 19 rfl) rfl
theorem q1609 : (Jvm.Cond.constant "jdk/internal/util/ArraysSupport" (200 : Nat) (2147483639 : Int32)) ∈ lw_all := lw_g (lw_at lw_m7 20 rfl) rfl
theorem q1610 : (Jvm.Cond.methodLink "jdk/internal/util/ArraysSupport" (201 : Nat) ({ cls := "jdk/internal/util/ArraysSupport", name := "hugeLength", desc := "(II)I" } : Jvm.MethodName)) ∈ lw_all := lw_g (lw_at lw_m7 21 rfl) rfl
theorem q1611 : (Jvm.Cond.static ({ cls := "jdk/internal/util/ArraysSupport", name := "hugeLength", desc := "(II)I" } : Jvm.MethodName)) ∈ lw_all := lw_g (lw_at lw_m7 22 rfl) rfl
theorem q1612 : (Jvm.Cond.code ({ cls := "jdk/internal/util/ArraysSupport", name := "hugeLength", desc := "(II)I" } : Jvm.MethodName) prog_59_method_28_code (3 : Nat) (Option.some Jvm.ClassFile.FieldType.int)) ∈ lw_all := lw_g (lw_at lw_m7 23 rfl) rfl
theorem q1613 : (Jvm.Cond.methodLink "java/util/ArrayList" (66 : Nat) ({ cls := "java/util/Arrays", name := "copyOf", desc := "([Ljava/lang/Object;I)[Ljava/lang/Object;" } : Jvm.MethodName)) ∈ lw_all := lw_g (lw_at lw_m7 24 rfl) rfl
theorem q1614 : (Jvm.Cond.static ({ cls := "java/util/Arrays", name := "copyOf", desc := "([Ljava/lang/Object;I)[Ljava/lang/Object;" } : Jvm.MethodName)) ∈ lw_all := lw_g (lw_at lw_m7 25 rfl) rfl
theorem q1615 : (Jvm.Cond.code ({ cls := "java/util/Arrays", name := "copyOf", desc := "([Ljava/lang/Object;I)[Ljava/lang/Object;" } : Jvm.MethodName) prog_53_method_119_code (2 : Nat) (Option.some (Jvm.ClassFile.FieldType.array (Jvm.ClassFile.FieldType.object "java/lang/Object")))) ∈ lw_all := lw_g (lw_at lw_m7 26 rfl) rfl
theorem q1616 : (Jvm.Cond.methodLink "java/util/Arrays" (86 : Nat) ({ cls := "java/lang/Object", name := "getClass", desc := "()Ljava/lang/Class;" } : Jvm.MethodName)) ∈ lw_all := lw_g (lw_at lw_m7 27 rfl) rfl
theorem q1617 : (Jvm.Cond.instanceMethod ({ cls := "java/lang/Object", name := "getClass", desc := "()Ljava/lang/Class;" } : Jvm.MethodName)) ∈ lw_all := lw_g (lw_at lw_m7 28 rfl) rfl
theorem q1618 : (Jvm.Cond.sameMethod "java/lang/Object" "java/lang/Object" "getClass" "()Ljava/lang/Class;") ∈ lw_all := lw_g (lw_at lw_m7 29 rfl) rfl
theorem q1619 : (Jvm.Cond.selects "CoinJudge" ({ cls := "java/lang/Object", name := "getClass", desc := "()Ljava/lang/Class;" } : Jvm.MethodName) ({ cls := "java/lang/Object", name := "getClass", desc := "()Ljava/lang/Class;" } : Jvm.MethodName)) ∈ lw_all := lw_g (lw_at lw_m7 30 rfl) rfl
theorem q1620 : (Jvm.Cond.selects "CoinJudge$Big" ({ cls := "java/lang/Object", name := "getClass", desc := "()Ljava/lang/Class;" } : Jvm.MethodName) ({ cls := "java/lang/Object", name := "getClass", desc := "()Ljava/lang/Class;" } : Jvm.MethodName)) ∈ lw_all := lw_g (lw_at lw_m7 31 rfl) rfl
theorem q1621 : (Jvm.Cond.selects "CoinJudge$Block" ({ cls := "java/lang/Object", name := "getClass", desc := "()Ljava/lang/Class;" } : Jvm.MethodName) ({ cls := "java/lang/Object", name := "getClass", desc := "()Ljava/lang/Class;" } : Jvm.MethodName)) ∈ lw_all := lw_g (lw_at lw_m7 32 rfl) rfl
theorem q1622 : (Jvm.Cond.selects "CoinJudge$Broken" ({ cls := "java/lang/Object", name := "getClass", desc := "()Ljava/lang/Class;" } : Jvm.MethodName) ({ cls := "java/lang/Object", name := "getClass", desc := "()Ljava/lang/Class;" } : Jvm.MethodName)) ∈ lw_all := lw_g (lw_at lw_m7 33 rfl) rfl
theorem q1623 : (Jvm.Cond.selects "CoinJudge$Coin" ({ cls := "java/lang/Object", name := "getClass", desc := "()Ljava/lang/Class;" } : Jvm.MethodName) ({ cls := "java/lang/Object", name := "getClass", desc := "()Ljava/lang/Class;" } : Jvm.MethodName)) ∈ lw_all := lw_g (lw_at lw_m7 34 rfl) rfl
theorem q1624 : (Jvm.Cond.selects "CoinJudge$Coins" ({ cls := "java/lang/Object", name := "getClass", desc := "()Ljava/lang/Class;" } : Jvm.MethodName) ({ cls := "java/lang/Object", name := "getClass", desc := "()Ljava/lang/Class;" } : Jvm.MethodName)) ∈ lw_all := lw_g (lw_at lw_m7 35 rfl) rfl
theorem q1625 : (Jvm.Cond.selects "CoinJudge$Curve" ({ cls := "java/lang/Object", name := "getClass", desc := "()Ljava/lang/Class;" } : Jvm.MethodName) ({ cls := "java/lang/Object", name := "getClass", desc := "()Ljava/lang/Class;" } : Jvm.MethodName)) ∈ lw_all := lw_g (lw_at lw_m7 36 rfl) rfl
theorem q1626 : (Jvm.Cond.selects "CoinJudge$Digests" ({ cls := "java/lang/Object", name := "getClass", desc := "()Ljava/lang/Class;" } : Jvm.MethodName) ({ cls := "java/lang/Object", name := "getClass", desc := "()Ljava/lang/Class;" } : Jvm.MethodName)) ∈ lw_all := lw_g (lw_at lw_m7 37 rfl) rfl
theorem q1627 : (Jvm.Cond.selects "CoinJudge$Draft" ({ cls := "java/lang/Object", name := "getClass", desc := "()Ljava/lang/Class;" } : Jvm.MethodName) ({ cls := "java/lang/Object", name := "getClass", desc := "()Ljava/lang/Class;" } : Jvm.MethodName)) ∈ lw_all := lw_g (lw_at lw_m7 38 rfl) rfl
theorem q1628 : (Jvm.Cond.selects "CoinJudge$DraftInput" ({ cls := "java/lang/Object", name := "getClass", desc := "()Ljava/lang/Class;" } : Jvm.MethodName) ({ cls := "java/lang/Object", name := "getClass", desc := "()Ljava/lang/Class;" } : Jvm.MethodName)) ∈ lw_all := lw_g (lw_at lw_m7 39 rfl) rfl
theorem q1629 : (Jvm.Cond.selects "CoinJudge$DraftOutput" ({ cls := "java/lang/Object", name := "getClass", desc := "()Ljava/lang/Class;" } : Jvm.MethodName) ({ cls := "java/lang/Object", name := "getClass", desc := "()Ljava/lang/Class;" } : Jvm.MethodName)) ∈ lw_all := lw_g (lw_at lw_m7 40 rfl) rfl
theorem q1630 : (Jvm.Cond.selects "CoinJudge$DraftTx" ({ cls := "java/lang/Object", name := "getClass", desc := "()Ljava/lang/Class;" } : Jvm.MethodName) ({ cls := "java/lang/Object", name := "getClass", desc := "()Ljava/lang/Class;" } : Jvm.MethodName)) ∈ lw_all := lw_g (lw_at lw_m7 41 rfl) rfl
theorem q1631 : (Jvm.Cond.selects "CoinJudge$Element" ({ cls := "java/lang/Object", name := "getClass", desc := "()Ljava/lang/Class;" } : Jvm.MethodName) ({ cls := "java/lang/Object", name := "getClass", desc := "()Ljava/lang/Class;" } : Jvm.MethodName)) ∈ lw_all := lw_g (lw_at lw_m7 42 rfl) rfl
theorem q1632 : (Jvm.Cond.selects "CoinJudge$Input" ({ cls := "java/lang/Object", name := "getClass", desc := "()Ljava/lang/Class;" } : Jvm.MethodName) ({ cls := "java/lang/Object", name := "getClass", desc := "()Ljava/lang/Class;" } : Jvm.MethodName)) ∈ lw_all := lw_g (lw_at lw_m7 43 rfl) rfl
theorem q1633 : (Jvm.Cond.selects "CoinJudge$Machine" ({ cls := "java/lang/Object", name := "getClass", desc := "()Ljava/lang/Class;" } : Jvm.MethodName) ({ cls := "java/lang/Object", name := "getClass", desc := "()Ljava/lang/Class;" } : Jvm.MethodName)) ∈ lw_all := lw_g (lw_at lw_m7 44 rfl) rfl
theorem q1634 : (Jvm.Cond.selects "CoinJudge$Output" ({ cls := "java/lang/Object", name := "getClass", desc := "()Ljava/lang/Class;" } : Jvm.MethodName) ({ cls := "java/lang/Object", name := "getClass", desc := "()Ljava/lang/Class;" } : Jvm.MethodName)) ∈ lw_all := lw_g (lw_at lw_m7 45 rfl) rfl
theorem q1635 : (Jvm.Cond.selects "CoinJudge$Point" ({ cls := "java/lang/Object", name := "getClass", desc := "()Ljava/lang/Class;" } : Jvm.MethodName) ({ cls := "java/lang/Object", name := "getClass", desc := "()Ljava/lang/Class;" } : Jvm.MethodName)) ∈ lw_all := lw_g (lw_at lw_m7 46 rfl) rfl
theorem q1636 : (Jvm.Cond.selects "CoinJudge$Refused" ({ cls := "java/lang/Object", name := "getClass", desc := "()Ljava/lang/Class;" } : Jvm.MethodName) ({ cls := "java/lang/Object", name := "getClass", desc := "()Ljava/lang/Class;" } : Jvm.MethodName)) ∈ lw_all := lw_g (lw_at lw_m7 47 rfl) rfl
theorem q1637 : (Jvm.Cond.selects "CoinJudge$Ring" ({ cls := "java/lang/Object", name := "getClass", desc := "()Ljava/lang/Class;" } : Jvm.MethodName) ({ cls := "java/lang/Object", name := "getClass", desc := "()Ljava/lang/Class;" } : Jvm.MethodName)) ∈ lw_all := lw_g (lw_at lw_m7 48 rfl) rfl
theorem q1638 : (Jvm.Cond.selects "CoinJudge$Signing" ({ cls := "java/lang/Object", name := "getClass", desc := "()Ljava/lang/Class;" } : Jvm.MethodName) ({ cls := "java/lang/Object", name := "getClass", desc := "()Ljava/lang/Class;" } : Jvm.MethodName)) ∈ lw_all := lw_g (lw_at lw_m7 49 rfl) rfl
theorem q1639 : (Jvm.Cond.selects "CoinJudge$Sink" ({ cls := "java/lang/Object", name := "getClass", desc := "()Ljava/lang/Class;" } : Jvm.MethodName) ({ cls := "java/lang/Object", name := "getClass", desc := "()Ljava/lang/Class;" } : Jvm.MethodName)) ∈ lw_all := lw_g (lw_at lw_m7 50 rfl) rfl
theorem q1640 : (Jvm.Cond.selects "CoinJudge$Source" ({ cls := "java/lang/Object", name := "getClass", desc := "()Ljava/lang/Class;" } : Jvm.MethodName) ({ cls := "java/lang/Object", name := "getClass", desc := "()Ljava/lang/Class;" } : Jvm.MethodName)) ∈ lw_all := lw_g (lw_at lw_m7 51 rfl) rfl
theorem q1641 : (Jvm.Cond.selects "CoinJudge$State" ({ cls := "java/lang/Object", name := "getClass", desc := "()Ljava/lang/Class;" } : Jvm.MethodName) ({ cls := "java/lang/Object", name := "getClass", desc := "()Ljava/lang/Class;" } : Jvm.MethodName)) ∈ lw_all := lw_g (lw_at lw_m7 52 rfl) rfl
theorem q1642 : (Jvm.Cond.selects "CoinJudge$Tx" ({ cls := "java/lang/Object", name := "getClass", desc := "()Ljava/lang/Class;" } : Jvm.MethodName) ({ cls := "java/lang/Object", name := "getClass", desc := "()Ljava/lang/Class;" } : Jvm.MethodName)) ∈ lw_all := lw_g (lw_at lw_m7 53 rfl) rfl
theorem q1643 : (Jvm.Cond.selects "CoinJudgeModel" ({ cls := "java/lang/Object", name := "getClass", desc := "()Ljava/lang/Class;" } : Jvm.MethodName) ({ cls := "java/lang/Object", name := "getClass", desc := "()Ljava/lang/Class;" } : Jvm.MethodName)) ∈ lw_all := lw_g (lw_at lw_m7 54 rfl) rfl
theorem q1644 : (Jvm.Cond.selects "CoinJudgeModel$Block" ({ cls := "java/lang/Object", name := "getClass", desc := "()Ljava/lang/Class;" } : Jvm.MethodName) ({ cls := "java/lang/Object", name := "getClass", desc := "()Ljava/lang/Class;" } : Jvm.MethodName)) ∈ lw_all := lw_g (lw_at lw_m7 55 rfl) rfl
theorem q1645 : (Jvm.Cond.selects "CoinJudgeModel$Parsed" ({ cls := "java/lang/Object", name := "getClass", desc := "()Ljava/lang/Class;" } : Jvm.MethodName) ({ cls := "java/lang/Object", name := "getClass", desc := "()Ljava/lang/Class;" } : Jvm.MethodName)) ∈ lw_all := lw_g (lw_at lw_m7 56 rfl) rfl
theorem q1646 : (Jvm.Cond.selects "CoinJudgeModel$Point" ({ cls := "java/lang/Object", name := "getClass", desc := "()Ljava/lang/Class;" } : Jvm.MethodName) ({ cls := "java/lang/Object", name := "getClass", desc := "()Ljava/lang/Class;" } : Jvm.MethodName)) ∈ lw_all := lw_g (lw_at lw_m7 57 rfl) rfl
theorem q1647 : (Jvm.Cond.selects "CoinJudgeModel$Ring" ({ cls := "java/lang/Object", name := "getClass", desc := "()Ljava/lang/Class;" } : Jvm.MethodName) ({ cls := "java/lang/Object", name := "getClass", desc := "()Ljava/lang/Class;" } : Jvm.MethodName)) ∈ lw_all := lw_g (lw_at lw_m7 58 rfl) rfl
theorem q1648 : (Jvm.Cond.selects "java/lang/ArrayIndexOutOfBoundsException" ({ cls := "java/lang/Object", name := "getClass", desc := "()Ljava/lang/Class;" } : Jvm.MethodName) ({ cls := "java/lang/Object", name := "getClass", desc := "()Ljava/lang/Class;" } : Jvm.MethodName)) ∈ lw_all := lw_g (lw_at lw_m7 59 rfl) rfl
theorem q1649 : (Jvm.Cond.selects "java/lang/IllegalArgumentException" ({ cls := "java/lang/Object", name := "getClass", desc := "()Ljava/lang/Class;" } : Jvm.MethodName) ({ cls := "java/lang/Object", name := "getClass", desc := "()Ljava/lang/Class;" } : Jvm.MethodName)) ∈ lw_all := lw_g (lw_at lw_m7 60 rfl) rfl
theorem q1650 : (Jvm.Cond.selects "java/lang/IllegalStateException" ({ cls := "java/lang/Object", name := "getClass", desc := "()Ljava/lang/Class;" } : Jvm.MethodName) ({ cls := "java/lang/Object", name := "getClass", desc := "()Ljava/lang/Class;" } : Jvm.MethodName)) ∈ lw_all := lw_g (lw_at lw_m7 61 rfl) rfl
theorem q1651 : (Jvm.Cond.selects "java/lang/IndexOutOfBoundsException" ({ cls := "java/lang/Object", name := "getClass", desc := "()Ljava/lang/Class;" } : Jvm.MethodName) ({ cls := "java/lang/Object", name := "getClass", desc := "()Ljava/lang/Class;" } : Jvm.MethodName)) ∈ lw_all := lw_g (lw_at lw_m7 62 rfl) rfl
theorem q1652 : (Jvm.Cond.selects "java/lang/UnsupportedOperationException" ({ cls := "java/lang/Object", name := "getClass", desc := "()Ljava/lang/Class;" } : Jvm.MethodName) ({ cls := "java/lang/Object", name := "getClass", desc := "()Ljava/lang/Class;" } : Jvm.MethodName)) ∈ lw_all := lw_g (lw_at lw_m7 63 rfl) rfl
theorem q1653 : (Jvm.Cond.selects "java/util/ArrayList" ({ cls := "java/lang/Object", name := "getClass", desc := "()Ljava/lang/Class;" } : Jvm.MethodName) ({ cls := "java/lang/Object", name := "getClass", desc := "()Ljava/lang/Class;" } : Jvm.MethodName)) ∈ lw_all := lw_g (lw_at lw_m7 64 rfl) rfl
theorem q1654 : (Jvm.Cond.native ({ cls := "java/lang/Object", name := "getClass", desc := "()Ljava/lang/Class;" } : Jvm.MethodName)) ∈ lw_all := lw_g (lw_at lw_m7 65 rfl) rfl
theorem q1655 : (Jvm.Cond.methodLink "java/util/Arrays" (300 : Nat) ({ cls := "java/util/Arrays", name := "copyOf", desc := "([Ljava/lang/Object;ILjava/lang/Class;)[Ljava/lang/Object;" } : Jvm.MethodName)) ∈ lw_all := lw_g (lw_at lw_m7 66 rfl) rfl
theorem q1656 : (Jvm.Cond.static ({ cls := "java/util/Arrays", name := "copyOf", desc := "([Ljava/lang/Object;ILjava/lang/Class;)[Ljava/lang/Object;" } : Jvm.MethodName)) ∈ lw_all := lw_g (lw_at lw_m7 67 rfl) rfl
theorem q1657 : (Jvm.Cond.code ({ cls := "java/util/Arrays", name := "copyOf", desc := "([Ljava/lang/Object;ILjava/lang/Class;)[Ljava/lang/Object;" } : Jvm.MethodName) prog_53_method_120_code (4 : Nat) (Option.some (Jvm.ClassFile.FieldType.array (Jvm.ClassFile.FieldType.object "java/lang/Object")))) ∈ lw_all := lw_g (lw_at lw_m7 68 rfl) rfl
theorem q1658 : (Jvm.Cond.classLink "java/util/Arrays" (110 : Nat) "[Ljava/lang/Object;") ∈ lw_all := lw_g (lw_at lw_m7 69 rfl) rfl
theorem q1659 : (Jvm.Cond.arrayOver (Jvm.ClassFile.FieldType.object "java/lang/Object")) ∈ lw_tbl := lw_at lw_m7 70 rfl
theorem q1660 : (Jvm.Cond.classLink "java/util/Arrays" (2 : Nat) "java/lang/Object") ∈ lw_all := lw_g (lw_at lw_m7 71 rfl) rfl
theorem q1661 : (Jvm.Cond.methodLink "java/util/Arrays" (304 : Nat) ({ cls := "java/lang/Math", name := "min", desc := "(II)I" } : Jvm.MethodName)) ∈ lw_all := lw_g (lw_at lw_m7 72 rfl) rfl
theorem q1662 : (Jvm.Cond.static ({ cls := "java/lang/Math", name := "min", desc := "(II)I" } : Jvm.MethodName)) ∈ lw_all := lw_g (lw_at lw_m7 73 rfl) rfl
theorem q1663 : (Jvm.Cond.code ({ cls := "java/lang/Math", name := "min", desc := "(II)I" } : Jvm.MethodName) prog_42_method_69_code (2 : Nat) (Option.some Jvm.ClassFile.FieldType.int)) ∈ lw_all := lw_g (lw_at lw_m7 74 rfl) rfl
theorem q1664 : (Jvm.Cond.methodLink "java/util/Arrays" (150 : Nat) ({ cls := "java/lang/System", name := "arraycopy", desc := "(Ljava/lang/Object;ILjava/lang/Object;II)V" } : Jvm.MethodName)) ∈ lw_all := lw_g (lw_at lw_m7 75 rfl) rfl
theorem q1665 : (Jvm.Cond.methodLink "java/util/ArrayList" (79 : Nat) ({ cls := "java/lang/Math", name := "max", desc := "(II)I" } : Jvm.MethodName)) ∈ lw_all := lw_g (lw_at lw_m7 76 rfl) rfl
theorem q1666 : (Jvm.Cond.classLink "java/util/ArrayList" (7 : Nat) "java/lang/Object") ∈ lw_all := lw_g (lw_at lw_m7 77 rfl) rfl
theorem q1667 : (Jvm.Cond.methodLink "CoinJudge" (490 : Nat) ({ cls := "CoinJudge$Coins", name := "remove", desc := "([BII)V" } : Jvm.MethodName)) ∈ lw_all := lw_g (lw_at lw_m7 78 rfl) rfl
theorem q1668 : (Jvm.Cond.instanceMethod ({ cls := "CoinJudge$Coins", name := "remove", desc := "([BII)V" } : Jvm.MethodName)) ∈ lw_all := lw_g (lw_at lw_m7 79 rfl) rfl
theorem q1669 : (Jvm.Cond.selects "CoinJudge$Coins" ({ cls := "CoinJudge$Coins", name := "remove", desc := "([BII)V" } : Jvm.MethodName) ({ cls := "CoinJudge$Coins", name := "remove", desc := "([BII)V" } : Jvm.MethodName)) ∈ lw_all := lw_g (lw_at lw_m7 80 rfl) rfl
theorem q1670 : (Jvm.Cond.code ({ cls := "CoinJudge$Coins", name := "remove", desc := "([BII)V" } : Jvm.MethodName) prog_6_method_6_code (7 : Nat) (Option.none : Option Jvm.ClassFile.FieldType)) ∈ lw_all := lw_g (lw_at lw_m7 81 rfl) rfl
theorem q1671 : (Jvm.Cond.methodLink "CoinJudge$Coins" (44 : Nat) ({ cls := "CoinJudge$Coin", name := "output", desc := "()LCoinJudge$Output;" } : Jvm.MethodName)) ∈ lw_all := lw_g (lw_at lw_m7 82 rfl) rfl
theorem q1672 : (Jvm.Cond.classLink "CoinJudge" (469 : Nat) "CoinJudge$Coin") ∈ lw_all := lw_g (lw_at lw_m7 83 rfl) rfl
theorem q1673 : (Jvm.Cond.instantiable "CoinJudge$Coin" (3 : Nat)) ∈ lw_all := lw_g (lw_at lw_m7 84 rfl) rfl
theorem q1674 : (Jvm.Cond.methodLink "CoinJudge" (494 : Nat) ({ cls := "CoinJudge$Coin", name := "<init>", desc := "(LCoinJudge$Block;LCoinJudge$Tx;I)V" } : Jvm.MethodName)) ∈ lw_all := lw_g (lw_at lw_m7 85 rfl) rfl
theorem q1675 : (Jvm.Cond.instanceMethod ({ cls := "CoinJudge$Coin", name := "<init>", desc := "(LCoinJudge$Block;LCoinJudge$Tx;I)V" } : Jvm.MethodName)) ∈ lw_all := lw_g (lw_at lw_m7 86 rfl) rfl
theorem q1676 : (Jvm.Cond.code ({ cls := "CoinJudge$Coin", name := "<init>", desc := "(LCoinJudge$Block;LCoinJudge$Tx;I)V" } : Jvm.MethodName) prog_5_method_1_code (4 : Nat) (Option.none : Option Jvm.ClassFile.FieldType)) ∈ lw_all := lw_g (lw_at lw_m7 87 rfl) rfl
theorem q1677 : (Jvm.Cond.methodLink "CoinJudge$Coin" (1 : Nat) ({ cls := "java/lang/Object", name := "<init>", desc := "()V" } : Jvm.MethodName)) ∈ lw_all := lw_g (lw_at lw_m7 88 rfl) rfl
theorem q1678 : (Jvm.Cond.fieldLink "CoinJudge$Coin" (7 : Nat) "CoinJudge$Coin" "block" "LCoinJudge$Block;") ∈ lw_all := lw_g (lw_at lw_m7 89 rfl) rfl
theorem q1679 : (Jvm.Cond.fieldLinkNest "CoinJudge" (473 : Nat) "CoinJudge$Coin" "block" "LCoinJudge$Block;" "CoinJudge") ∈ lw_tbl := lw_at lw_m7 90 rfl
theorem q1680 : (Jvm.Cond.fieldLink "CoinJudge$Coin" (13 : Nat) "CoinJudge$Coin" "tx" "LCoinJudge$Tx;") ∈ lw_all := lw_g (lw_at lw_m7 91 rfl) rfl
theorem q1681 : (Jvm.Cond.fieldLinkNest "CoinJudge$Coins" (23 : Nat) "CoinJudge$Coin" "tx" "LCoinJudge$Tx;" "CoinJudge") ∈ lw_tbl := lw_at lw_m7 92 rfl
theorem q1682 : (Jvm.Cond.fieldLink "CoinJudge$Coin" (17 : Nat) "CoinJudge$Coin" "index" "I") ∈ lw_all := lw_g (lw_at lw_m7 93 rfl) rfl
theorem q1683 : (Jvm.Cond.fieldLinkNest "CoinJudge$Coins" (19 : Nat) "CoinJudge$Coin" "index" "I" "CoinJudge") ∈ lw_tbl := lw_at lw_m7 94 rfl
theorem q1684 : (Jvm.Cond.laysFinal "CoinJudge$Coin" "CoinJudge$Coin" "block" "LCoinJudge$Block;") ∈ lw_all := lw_g (lw_at lw_m7 95 rfl) rfl
theorem q1685 : (Jvm.Cond.soleField "CoinJudge$Coin" "block") ∈ lw_all := lw_g (lw_at lw_m7 96 rfl) rfl
theorem q1686 : (Jvm.Cond.laysFinal "CoinJudge$Coin" "CoinJudge$Coin" "tx" "LCoinJudge$Tx;") ∈ lw_all := lw_g (lw_at lw_m7 97 rfl) rfl
theorem q1687 : (Jvm.Cond.soleField "CoinJudge$Coin" "tx") ∈ lw_all := lw_g (lw_at lw_m7 98 rfl) rfl
theorem q1688 : (Jvm.Cond.laysFinal "CoinJudge$Coin" "CoinJudge$Coin" "index" "I") ∈ lw_all := lw_g (lw_at lw_m7 99 rfl) rfl
theorem q1689 : (Jvm.Cond.soleField "CoinJudge$Coin" "index") ∈ lw_all := lw_g (lw_at lw_m7 100 rfl) rfl
theorem q1690 : (Jvm.Cond.superclass "CoinJudge$Coin" "java/lang/Object") ∈ lw_all := lw_g (lw_at lw_m7 101 rfl) rfl
theorem q1691 : (Jvm.Cond.methodLink "CoinJudge" (497 : Nat) ({ cls := "CoinJudge$Coins", name := "put", desc := "(LCoinJudge$Coin;)LCoinJudge$Coin;" } : Jvm.MethodName)) ∈ lw_all := lw_g (lw_at lw_m7 102 rfl) rfl
theorem q1692 : (Jvm.Cond.instanceMethod ({ cls := "CoinJudge$Coins", name := "put", desc := "(LCoinJudge$Coin;)LCoinJudge$Coin;" } : Jvm.MethodName)) ∈ lw_all := lw_g (lw_at lw_m7 103 rfl) rfl
theorem q1693 : (Jvm.Cond.selects "CoinJudge$Coins" ({ cls := "CoinJudge$Coins", name := "put", desc := "(LCoinJudge$Coin;)LCoinJudge$Coin;" } : Jvm.MethodName) ({ cls := "CoinJudge$Coins", name := "put", desc := "(LCoinJudge$Coin;)LCoinJudge$Coin;" } : Jvm.MethodName)) ∈ lw_all := lw_g (lw_at lw_m7 104 rfl) rfl
theorem q1694 : (Jvm.Cond.code ({ cls := "CoinJudge$Coins", name := "put", desc := "(LCoinJudge$Coin;)LCoinJudge$Coin;" } : Jvm.MethodName) prog_6_method_5_code (4 : Nat) (Option.some (Jvm.ClassFile.FieldType.object "CoinJudge$Coin"))) ∈ lw_all := lw_g (lw_at lw_m7 105 rfl) rfl
theorem q1695 : (Jvm.Cond.methodLink "CoinJudge" (461 : Nat) ({ cls := "CoinJudge", name := "subsidy", desc := "(I)J" } : Jvm.MethodName)) ∈ lw_all := lw_g (lw_at lw_m7 106 rfl) rfl
theorem q1696 : (Jvm.Cond.static ({ cls := "CoinJudge", name := "subsidy", desc := "(I)J" } : Jvm.MethodName)) ∈ lw_all := lw_g (lw_at lw_m7 107 rfl) rfl
theorem q1697 : (Jvm.Cond.code ({ cls := "CoinJudge", name := "subsidy", desc := "(I)J" } : Jvm.MethodName) prog_1_method_8_code (1 : Nat) (Option.some Jvm.ClassFile.FieldType.long)) ∈ lw_all := lw_g (lw_at lw_m7 108 rfl) rfl
theorem q1698 : (Jvm.Cond.methodLink "CoinJudge" (227 : Nat) ({ cls := "java/lang/Math", name := "min", desc := "(II)I" } : Jvm.MethodName)) ∈ lw_all := lw_g (lw_at lw_m7 109 rfl) rfl
theorem q1699 : (Jvm.Cond.methodLink "CoinJudge" (436 : Nat) ({ cls := "CoinJudge", name := "disconnect", desc := "(LCoinJudge$Block;I)V" } : Jvm.MethodName)) ∈ lw_all := lw_g (lw_at lw_m7 110 rfl) rfl
theorem q1700 : (Jvm.Cond.privateMethod ({ cls := "CoinJudge", name := "disconnect", desc := "(LCoinJudge$Block;I)V" } : Jvm.MethodName)) ∈ lw_tbl := lw_at lw_m7 111 rfl
theorem q1701 : (Jvm.Cond.instanceMethod ({ cls := "CoinJudge", name := "disconnect", desc := "(LCoinJudge$Block;I)V" } : Jvm.MethodName)) ∈ lw_all := lw_g (lw_at lw_m7 112 rfl) rfl
theorem q1702 : (Jvm.Cond.code ({ cls := "CoinJudge", name := "disconnect", desc := "(LCoinJudge$Block;I)V" } : Jvm.MethodName) prog_1_method_27_code (8 : Nat) (Option.none : Option Jvm.ClassFile.FieldType)) ∈ lw_all := lw_g (lw_at lw_m7 113 rfl) rfl
theorem q1703 : (Jvm.Cond.interfaceEntry "CoinJudge" (501 : Nat)) ∈ lw_tbl := lw_at lw_m7 114 rfl
theorem q1704 : (Jvm.Cond.methodLink "CoinJudge" (501 : Nat) ({ cls := "java/util/List", name := "size", desc := "()I" } : Jvm.MethodName)) ∈ lw_all := lw_g (lw_at lw_m7 115 rfl) rfl
theorem q1705 : (Jvm.Cond.interfaceMethod "java/util/List" "java/util/List" "size" "()I") ∈ lw_tbl := lw_at lw_m7 116 rfl
theorem q1706 : (Jvm.Cond.declares ({ cls := "java/util/List", name := "size", desc := "()I" } : Jvm.MethodName)) ∈ lw_tbl := lw_at lw_m7 117 rfl
theorem q1707 : (Jvm.Cond.selects "java/util/ArrayList" ({ cls := "java/util/List", name := "size", desc := "()I" } : Jvm.MethodName) ({ cls := "java/util/ArrayList", name := "size", desc := "()I" } : Jvm.MethodName)) ∈ lw_all := lw_g (lw_at lw_m7 118 rfl) rfl
theorem q1708 : (Jvm.Cond.unhidden "java/util/ArrayList" "size" "()I") ∈ lw_tbl := lw_at lw_m7 119 rfl
theorem q1709 : (Jvm.Cond.instanceMethod ({ cls := "java/util/ArrayList", name := "size", desc := "()I" } : Jvm.MethodName)) ∈ lw_all := lw_g (lw_at lw_m7 120 rfl) rfl
theorem q1710 : (Jvm.Cond.publicMethod ({ cls := "java/util/ArrayList", name := "size", desc := "()I" } : Jvm.MethodName)) ∈ lw_tbl := lw_at lw_m7 121 rfl
theorem q1711 : (Jvm.Cond.code ({ cls := "java/util/ArrayList", name := "size", desc := "()I" } : Jvm.MethodName) prog_52_method_8_code (1 : Nat) (Option.some Jvm.ClassFile.FieldType.int)) ∈ lw_all := lw_g (lw_at lw_m7 122 rfl) rfl
theorem q1712 : (Jvm.Cond.interfaceEntry "CoinJudge" (503 : Nat)) ∈ lw_tbl := lw_at lw_m7 123 rfl
theorem q1713 : (Jvm.Cond.methodLink "CoinJudge" (503 : Nat) ({ cls := "java/util/List", name := "get", desc := "(I)Ljava/lang/Object;" } : Jvm.MethodName)) ∈ lw_all := lw_g (lw_at lw_m7 124 rfl) rfl
theorem q1714 : (Jvm.Cond.interfaceMethod "java/util/List" "java/util/List" "get" "(I)Ljava/lang/Object;") ∈ lw_tbl := lw_at lw_m7 125 rfl
theorem q1715 : (Jvm.Cond.declares ({ cls := "java/util/List", name := "get", desc := "(I)Ljava/lang/Object;" } : Jvm.MethodName)) ∈ lw_tbl := lw_at lw_m7 126 rfl
theorem q1716 : (Jvm.Cond.selects "java/util/ArrayList" ({ cls := "java/util/List", name := "get", desc := "(I)Ljava/lang/Object;" } : Jvm.MethodName) ({ cls := "java/util/ArrayList", name := "get", desc := "(I)Ljava/lang/Object;" } : Jvm.MethodName)) ∈ lw_all := lw_g (lw_at lw_m7 127 rfl) rfl
theorem q1717 : (Jvm.Cond.unhidden "java/util/ArrayList" "get" "(I)Ljava/lang/Object;") ∈ lw_tbl := lw_at lw_m7 128 rfl
theorem q1718 : (Jvm.Cond.instanceMethod ({ cls := "java/util/ArrayList", name := "get", desc := "(I)Ljava/lang/Object;" } : Jvm.MethodName)) ∈ lw_all := lw_g (lw_at lw_m7 129 rfl) rfl
theorem q1719 : (Jvm.Cond.publicMethod ({ cls := "java/util/ArrayList", name := "get", desc := "(I)Ljava/lang/Object;" } : Jvm.MethodName)) ∈ lw_tbl := lw_at lw_m7 130 rfl
theorem q1720 : (Jvm.Cond.code ({ cls := "java/util/ArrayList", name := "get", desc := "(I)Ljava/lang/Object;" } : Jvm.MethodName) prog_52_method_20_code (2 : Nat) (Option.some (Jvm.ClassFile.FieldType.object "java/lang/Object"))) ∈ lw_all := lw_g (lw_at lw_m7 131 rfl) rfl
theorem q1721 : (Jvm.Cond.methodLink "java/util/ArrayList" (118 : Nat) ({ cls := "java/util/Objects", name := "checkIndex", desc := "(II)I" } : Jvm.MethodName)) ∈ lw_all := lw_g (lw_at lw_m7 132 rfl) rfl
theorem q1722 : (Jvm.Cond.static ({ cls := "java/util/Objects", name := "checkIndex", desc := "(II)I" } : Jvm.MethodName)) ∈ lw_all := lw_g (lw_at lw_m7 133 rfl) rfl
theorem q1723 : (Jvm.Cond.code ({ cls := "java/util/Objects", name := "checkIndex", desc := "(II)I" } : Jvm.MethodName) prog_56_method_17_code (2 : Nat) (Option.some Jvm.ClassFile.FieldType.int)) ∈ lw_all := lw_g (lw_at lw_m7 134 rfl) rfl
theorem q1724 : (Jvm.Cond.methodLink "java/util/Objects" (105 : Nat) ({ cls := "jdk/internal/util/Preconditions", name := "checkIndex", desc := "(IILjava/util/function/BiFunction;)I" } : Jvm.MethodName)) ∈ lw_all := lw_g (lw_at lw_m7 135 rfl) rfl
theorem q1725 : (Jvm.Cond.methodLink "java/util/ArrayList" (123 : Nat) ({ cls := "java/util/ArrayList", name := "elementData", desc := "(I)Ljava/lang/Object;" } : Jvm.MethodName)) ∈ lw_all := lw_g (lw_at lw_m7 136 rfl) rfl
theorem q1726 : (Jvm.Cond.instanceMethod ({ cls := "java/util/ArrayList", name := "elementData", desc := "(I)Ljava/lang/Object;" } : Jvm.MethodName)) ∈ lw_all := lw_g (lw_at lw_m7 137 rfl) rfl
theorem q1727 : (Jvm.Cond.selects "java/util/ArrayList" ({ cls := "java/util/ArrayList", name := "elementData", desc := "(I)Ljava/lang/Object;" } : Jvm.MethodName) ({ cls := "java/util/ArrayList", name := "elementData", desc := "(I)Ljava/lang/Object;" } : Jvm.MethodName)) ∈ lw_all := lw_g (lw_at lw_m7 138 rfl) rfl
theorem q1728 : (Jvm.Cond.code ({ cls := "java/util/ArrayList", name := "elementData", desc := "(I)Ljava/lang/Object;" } : Jvm.MethodName) prog_52_method_18_code (2 : Nat) (Option.some (Jvm.ClassFile.FieldType.object "java/lang/Object"))) ∈ lw_all := lw_g (lw_at lw_m7 139 rfl) rfl
theorem q1729 : (Jvm.Cond.fieldLink "CoinJudge" (149 : Nat) "CoinJudge$State" "BEST" "LCoinJudge$State;") ∈ lw_all := lw_g (lw_at lw_m7 140 rfl) rfl
theorem q1730 : (Jvm.Cond.laysStatic "CoinJudge$State" "BEST" "LCoinJudge$State;") ∈ lw_tbl := lw_at lw_m7 141 rfl
theorem q1731 : (Jvm.Cond.constantLong "CoinJudge" (166 : Nat) (600 : Int64)) ∈ lw_all := lw_g (lw_at lw_m7 142 rfl) rfl
theorem q1732 : (Jvm.Cond.fieldLink "CoinJudge" (10 : Nat) "CoinJudge" "digests" "LCoinJudge$Digests;") ∈ lw_all := lw_g (lw_at lw_m7 143 rfl) rfl
theorem q1733 : (Jvm.Cond.fieldLink "CoinJudge" (19 : Nat) "CoinJudge" "curve" "LCoinJudge$Curve;") ∈ lw_all := lw_g (lw_at lw_m7 144 rfl) rfl
theorem q1734 : (Jvm.Cond.fieldLink "CoinJudge" (28 : Nat) "CoinJudge" "machine" "LCoinJudge$Machine;") ∈ lw_all := lw_g (lw_at lw_m7 145 rfl) rfl
theorem q1735 : (Jvm.Cond.fieldLink "CoinJudge" (37 : Nat) "CoinJudge" "signing" "LCoinJudge$Signing;") ∈ lw_all := lw_g (lw_at lw_m7 146 rfl) rfl
theorem q1736 : (Jvm.Cond.fieldLink "CoinJudge" (44 : Nat) "CoinJudge" "coins" "LCoinJudge$Coins;") ∈ lw_all := lw_g (lw_at lw_m7 147 rfl) rfl
theorem q1737 : (Jvm.Cond.fieldLink "CoinJudge" (50 : Nat) "CoinJudge" "blocks" "[LCoinJudge$Block;") ∈ lw_all := lw_g (lw_at lw_m7 148 rfl) rfl
theorem q1738 : (Jvm.Cond.fieldLink "CoinJudge" (340 : Nat) "CoinJudge" "blockCount" "I") ∈ lw_all := lw_g (lw_at lw_m7 149 rfl) rfl
theorem q1739 : (Jvm.Cond.fieldLink "CoinJudge" (158 : Nat) "CoinJudge" "tip" "LCoinJudge$Block;") ∈ lw_all := lw_g (lw_at lw_m7 150 rfl) rfl
theorem q1740 : (Jvm.Cond.fieldLink "CoinJudge" (393 : Nat) "CoinJudge" "why" "I") ∈ lw_all := lw_g (lw_at lw_m7 151 rfl) rfl
theorem q1741 : (Jvm.Cond.fieldLink "CoinJudge" (54 : Nat) "CoinJudge" "tape" "[B") ∈ lw_all := lw_g (lw_at lw_m7 152 rfl) rfl
theorem q1742 : (Jvm.Cond.fieldLink "CoinJudge" (168 : Nat) "CoinJudge" "taped" "I") ∈ lw_all := lw_g (lw_at lw_m7 153 rfl) rfl
theorem q1743 : (Jvm.Cond.fieldLink "CoinJudge" (58 : Nat) "CoinJudge" "scratch" "[B") ∈ lw_all := lw_g (lw_at lw_m7 154 rfl) rfl
theorem q1744 : (Jvm.Cond.fieldLink "CoinJudge" (61 : Nat) "CoinJudge" "out" "[B") ∈ lw_all := lw_g (lw_at lw_m7 155 rfl) rfl
theorem q1745 : (Jvm.Cond.fieldLink "CoinJudge" (67 : Nat) "CoinJudge" "target" "LCoinJudge$Big;") ∈ lw_all := lw_g (lw_at lw_m7 156 rfl) rfl
theorem q1746 : (Jvm.Cond.fieldLink "CoinJudge" (71 : Nat) "CoinJudge" "hash" "LCoinJudge$Big;") ∈ lw_all := lw_g (lw_at lw_m7 157 rfl) rfl
theorem q1747 : (Jvm.Cond.fieldLink "CoinJudge" (78 : Nat) "CoinJudge" "one" "LCoinJudge$Big;") ∈ lw_all := lw_g (lw_at lw_m7 158 rfl) rfl
theorem q1748 : (Jvm.Cond.fieldLink "CoinJudge" (84 : Nat) "CoinJudge" "draft" "LCoinJudge$Draft;") ∈ lw_all := lw_g (lw_at lw_m7 159 rfl) rfl
theorem q1749 : (Jvm.Cond.fieldLink "CoinJudge" (93 : Nat) "CoinJudge" "single" "LCoinJudge$Sink;") ∈ lw_all := lw_g (lw_at lw_m7 160 rfl) rfl
theorem q1750 : (Jvm.Cond.laysFinal "CoinJudge" "CoinJudge" "digests" "LCoinJudge$Digests;") ∈ lw_all := lw_g (lw_at lw_m7 161 rfl) rfl
theorem q1751 : (Jvm.Cond.soleField "CoinJudge" "digests") ∈ lw_all := lw_g (lw_at lw_m7 162 rfl) rfl
theorem q1752 : (Jvm.Cond.laysFinal "CoinJudge" "CoinJudge" "curve" "LCoinJudge$Curve;") ∈ lw_all := lw_g (lw_at lw_m7 163 rfl) rfl
theorem q1753 : (Jvm.Cond.soleField "CoinJudge" "curve") ∈ lw_all := lw_g (lw_at lw_m7 164 rfl) rfl
theorem q1754 : (Jvm.Cond.laysFinal "CoinJudge" "CoinJudge" "machine" "LCoinJudge$Machine;") ∈ lw_all := lw_g (lw_at lw_m7 165 rfl) rfl
theorem q1755 : (Jvm.Cond.soleField "CoinJudge" "machine") ∈ lw_all := lw_g (lw_at lw_m7 166 rfl) rfl
theorem q1756 : (Jvm.Cond.laysFinal "CoinJudge" "CoinJudge" "signing" "LCoinJudge$Signing;") ∈ lw_all := lw_g (lw_at lw_m7 167 rfl) rfl
theorem q1757 : (Jvm.Cond.soleField "CoinJudge" "signing") ∈ lw_all := lw_g (lw_at lw_m7 168 rfl) rfl
theorem q1758 : (Jvm.Cond.laysFinal "CoinJudge" "CoinJudge" "coins" "LCoinJudge$Coins;") ∈ lw_all := lw_g (lw_at lw_m7 169 rfl) rfl
theorem q1759 : (Jvm.Cond.soleField "CoinJudge" "coins") ∈ lw_all := lw_g (lw_at lw_m7 170 rfl) rfl
theorem q1760 : (Jvm.Cond.laysFinal "CoinJudge" "CoinJudge" "blocks" "[LCoinJudge$Block;") ∈ lw_all := lw_g (lw_at lw_m7 171 rfl) rfl
theorem q1761 : (Jvm.Cond.soleField "CoinJudge" "blocks") ∈ lw_all := lw_g (lw_at lw_m7 172 rfl) rfl
theorem q1762 : (Jvm.Cond.lays "CoinJudge" "CoinJudge" "blockCount" "I") ∈ lw_all := lw_g (lw_at lw_m7 173 rfl) rfl
theorem q1763 : (Jvm.Cond.soleField "CoinJudge" "blockCount") ∈ lw_all := lw_g (lw_at lw_m7 174 rfl) rfl
theorem q1764 : (Jvm.Cond.lays "CoinJudge" "CoinJudge" "tip" "LCoinJudge$Block;") ∈ lw_all := lw_g (lw_at lw_m7 175 rfl) rfl
theorem q1765 : (Jvm.Cond.soleField "CoinJudge" "tip") ∈ lw_all := lw_g (lw_at lw_m7 176 rfl) rfl
theorem q1766 : (Jvm.Cond.lays "CoinJudge" "CoinJudge" "why" "I") ∈ lw_all := lw_g (lw_at lw_m7 177 rfl) rfl
theorem q1767 : (Jvm.Cond.soleField "CoinJudge" "why") ∈ lw_all := lw_g (lw_at lw_m7 178 rfl) rfl
theorem q1768 : (Jvm.Cond.laysFinal "CoinJudge" "CoinJudge" "tape" "[B") ∈ lw_all := lw_g (lw_at lw_m7 179 rfl) rfl
theorem q1769 : (Jvm.Cond.soleField "CoinJudge" "tape") ∈ lw_all := lw_g (lw_at lw_m7 180 rfl) rfl
theorem q1770 : (Jvm.Cond.lays "CoinJudge" "CoinJudge" "taped" "I") ∈ lw_all := lw_g (lw_at lw_m7 181 rfl) rfl
theorem q1771 : (Jvm.Cond.soleField "CoinJudge" "taped") ∈ lw_all := lw_g (lw_at lw_m7 182 rfl) rfl
theorem q1772 : (Jvm.Cond.laysFinal "CoinJudge" "CoinJudge" "scratch" "[B") ∈ lw_all := lw_g (lw_at lw_m7 183 rfl) rfl
theorem q1773 : (Jvm.Cond.soleField "CoinJudge" "scratch") ∈ lw_all := lw_g (lw_at lw_m7 184 rfl) rfl
theorem q1774 : (Jvm.Cond.laysFinal "CoinJudge" "CoinJudge" "out" "[B") ∈ lw_all := lw_g (lw_at lw_m7 185 rfl) rfl
theorem q1775 : (Jvm.Cond.soleField "CoinJudge" "out") ∈ lw_all := lw_g (lw_at lw_m7 186 rfl) rfl
theorem q1776 : (Jvm.Cond.laysFinal "CoinJudge" "CoinJudge" "target" "LCoinJudge$Big;") ∈ lw_all := lw_g (lw_at lw_m7 187 rfl) rfl
theorem q1777 : (Jvm.Cond.soleField "CoinJudge" "target") ∈ lw_all := lw_g (lw_at lw_m7 188 rfl) rfl
theorem q1778 : (Jvm.Cond.laysFinal "CoinJudge" "CoinJudge" "hash" "LCoinJudge$Big;") ∈ lw_all := lw_g (lw_at lw_m7 189 rfl) rfl
theorem q1779 : (Jvm.Cond.soleField "CoinJudge" "hash") ∈ lw_all := lw_g (lw_at lw_m7 190 rfl) rfl
theorem q1780 : (Jvm.Cond.laysFinal "CoinJudge" "CoinJudge" "one" "LCoinJudge$Big;") ∈ lw_all := lw_g (lw_at lw_m7 191 rfl) rfl
theorem q1781 : (Jvm.Cond.soleField "CoinJudge" "one") ∈ lw_all := lw_g (lw_at lw_m7 192 rfl) rfl
theorem q1782 : (Jvm.Cond.laysFinal "CoinJudge" "CoinJudge" "draft" "LCoinJudge$Draft;") ∈ lw_all := lw_g (lw_at lw_m7 193 rfl) rfl
theorem q1783 : (Jvm.Cond.soleField "CoinJudge" "draft") ∈ lw_all := lw_g (lw_at lw_m7 194 rfl) rfl
theorem q1784 : (Jvm.Cond.laysFinal "CoinJudge" "CoinJudge" "single" "LCoinJudge$Sink;") ∈ lw_all := lw_g (lw_at lw_m7 195 rfl) rfl
theorem q1785 : (Jvm.Cond.soleField "CoinJudge" "single") ∈ lw_all := lw_g (lw_at lw_m7 196 rfl) rfl
theorem q1786 : (Jvm.Cond.superclass "CoinJudge" "java/lang/Object") ∈ lw_all := lw_g (lw_at lw_m7 197 rfl) rfl
theorem q1787 : (Jvm.Cond.methodLink "CoinJudgeLaw" (148 : Nat) ({ cls := "CoinJudge", name := "coins", desc := "()J" } : Jvm.MethodName)) ∈ lw_all := lw_g (lw_at lw_m7 198 rfl) rfl
theorem q1788 : (Jvm.Cond.instanceMethod ({ cls := "CoinJudge", name := "coins", desc := "()J" } : Jvm.MethodName)) ∈ lw_all := lw_g (lw_at lw_m7 199 rfl) rfl
theorem q1789 : (Jvm.Cond.selects "CoinJudge" ({ cls := "CoinJudge", name := "coins", desc := "()J" } : Jvm.MethodName) ({ cls := "CoinJudge", name := "coins", desc := "()J" } : Jvm.MethodName)) ∈ lw_all := lw_g (lw_at lw_m7 200 rfl) rfl
theorem q1790 : (Jvm.Cond.code ({ cls := "CoinJudge", name := "coins", desc := "()J" } : Jvm.MethodName) prog_1_method_48_code (1 : Nat) (Option.some Jvm.ClassFile.FieldType.long)) ∈ lw_all := lw_g (lw_at lw_m7 201 rfl) rfl
theorem q1791 : (Jvm.Cond.methodLink "CoinJudgeLaw" (84 : Nat) ({ cls := "CoinJudgeLaw", name := "feed", desc := "(LCoinJudge;IIIII[J)I" } : Jvm.MethodName)) ∈ lw_all := lw_g (lw_at lw_m7 202 rfl) rfl
theorem q1792 : (Jvm.Cond.static ({ cls := "CoinJudgeLaw", name := "feed", desc := "(LCoinJudge;IIIII[J)I" } : Jvm.MethodName)) ∈ lw_all := lw_g (lw_at lw_m7 203 rfl) rfl
theorem q1793 : (Jvm.Cond.codeWith ({ cls := "CoinJudgeLaw", name := "feed", desc := "(LCoinJudge;IIIII[J)I" } : Jvm.MethodName) method_3_code (8 : Nat) (Option.some Jvm.ClassFile.FieldType.int) [((0 : Nat), (16 : Nat), (19 : Nat), (13 : Nat))]) ∈ lw_all := lw_g (lw_at lw_m7 204 rfl) rfl
theorem q1794 : (Jvm.Cond.classLink "CoinJudgeLaw" (13 : Nat) "java/lang/IndexOutOfBoundsException") ∈ lw_all := lw_g (lw_at lw_m7 205 rfl) rfl
theorem q1795 : (Jvm.Cond.instantiable "java/lang/ArrayIndexOutOfBoundsException" (6 : Nat)) ∈ lw_all := lw_g (lw_at lw_m7 206 rfl) rfl
theorem q1796 : (Jvm.Cond.instanceMethod ({ cls := "java/lang/ArrayIndexOutOfBoundsException", name := "<init>", desc := "(Ljava/lang/String;)V" } : Jvm.MethodName)) ∈ lw_all := lw_g (lw_at lw_m7 207 rfl) rfl
theorem q1797 : (Jvm.Cond.code ({ cls := "java/lang/ArrayIndexOutOfBoundsException", name := "<init>", desc := "(Ljava/lang/String;)V" } : Jvm.MethodName) prog_33_method_2_code (2 : Nat) (Option.none : Option Jvm.ClassFile.FieldType)) ∈ lw_all := lw_g (lw_at lw_m7 208 rfl) rfl
theorem q1798 : (Jvm.Cond.methodLink "java/lang/ArrayIndexOutOfBoundsException" (7 : Nat) ({ cls := "java/lang/IndexOutOfBoundsException", name := "<init>", desc := "(Ljava/lang/String;)V" } : Jvm.MethodName)) ∈ lw_all := lw_g (lw_at lw_m7 209 rfl) rfl
theorem q1799 : (Jvm.Cond.instanceMethod ({ cls := "java/lang/IndexOutOfBoundsException", name := "<init>", desc := "(Ljava/lang/String;)V" } : Jvm.MethodName)) ∈ lw_all := lw_g (lw_at lw_m7 210 rfl) rfl
theorem q1800 : (Jvm.Cond.code ({ cls := "java/lang/IndexOutOfBoundsException", name := "<init>", desc := "(Ljava/lang/String;)V" } : Jvm.MethodName) prog_39_method_2_code (2 : Nat) (Option.none : Option Jvm.ClassFile.FieldType)) ∈ lw_all := lw_g (lw_at lw_m7 211 rfl) rfl
theorem q1801 : (Jvm.Cond.methodLink "java/lang/IndexOutOfBoundsException" (7 : Nat) ({ cls := "java/lang/RuntimeException", name := "<init>", desc := "(Ljava/lang/String;)V" } : Jvm.MethodName)) ∈ lw_all := lw_g (lw_at lw_m7 212 rfl) rfl
theorem q1802 : (Jvm.Cond.instanceMethod ({ cls := "java/lang/RuntimeException", name := "<init>", desc := "(Ljava/lang/String;)V" } : Jvm.MethodName)) ∈ lw_all := lw_g (lw_at lw_m7 213 rfl) rfl
theorem q1803 : (Jvm.Cond.code ({ cls := "java/lang/RuntimeException", name := "<init>", desc := "(Ljava/lang/String;)V" } : Jvm.MethodName) prog_43_method_2_code (2 : Nat) (Option.none : Option Jvm.ClassFile.FieldType)) ∈ lw_all := lw_g (lw_at lw_m7 214 rfl) rfl
theorem q1804 : (Jvm.Cond.methodLink "java/lang/RuntimeException" (7 : Nat) ({ cls := "java/lang/Exception", name := "<init>", desc := "(Ljava/lang/String;)V" } : Jvm.MethodName)) ∈ lw_all := lw_g (lw_at lw_m7 215 rfl) rfl
theorem q1805 : (Jvm.Cond.instanceMethod ({ cls := "java/lang/Exception", name := "<init>", desc := "(Ljava/lang/String;)V" } : Jvm.MethodName)) ∈ lw_all := lw_g (lw_at lw_m7 216 rfl) rfl
theorem q1806 : (Jvm.Cond.code ({ cls := "java/lang/Exception", name := "<init>", desc := "(Ljava/lang/String;)V" } : Jvm.MethodName) prog_36_method_2_code (2 : Nat) (Option.none : Option Jvm.ClassFile.FieldType)) ∈ lw_all := lw_g (lw_at lw_m7 217 rfl) rfl
theorem q1807 : (Jvm.Cond.methodLink "java/lang/Exception" (7 : Nat) ({ cls := "java/lang/Throwable", name := "<init>", desc := "(Ljava/lang/String;)V" } : Jvm.MethodName)) ∈ lw_all := lw_g (lw_at lw_m7 218 rfl) rfl
theorem q1808 : (Jvm.Cond.instanceMethod ({ cls := "java/lang/Throwable", name := "<init>", desc := "(Ljava/lang/String;)V" } : Jvm.MethodName)) ∈ lw_all := lw_g (lw_at lw_m7 219 rfl) rfl
theorem q1809 : (Jvm.Cond.code ({ cls := "java/lang/Throwable", name := "<init>", desc := "(Ljava/lang/String;)V" } : Jvm.MethodName) prog_48_method_2_code (2 : Nat) (Option.none : Option Jvm.ClassFile.FieldType)) ∈ lw_all := lw_g (lw_at lw_m7 220 rfl) rfl
theorem q1810 : (Jvm.Cond.lays "java/lang/ArrayIndexOutOfBoundsException" "java/lang/Throwable" "backtrace" "Ljava/lang/Object;") ∈ lw_all := lw_g (lw_at lw_m7 221 rfl) rfl
theorem q1811 : (Jvm.Cond.lays "java/lang/ArrayIndexOutOfBoundsException" "java/lang/Throwable" "detailMessage" "Ljava/lang/String;") ∈ lw_all := lw_g (lw_at lw_m7 222 rfl) rfl
theorem q1812 : (Jvm.Cond.lays "java/lang/ArrayIndexOutOfBoundsException" "java/lang/Throwable" "cause" "Ljava/lang/Throwable;") ∈ lw_all := lw_g (lw_at lw_m7 223 rfl) rfl
theorem q1813 : (Jvm.Cond.lays "java/lang/ArrayIndexOutOfBoundsException" "java/lang/Throwable" "stackTrace" "[Ljava/lang/StackTraceElement;") ∈ lw_all := lw_g (lw_at lw_m7 224 rfl) rfl
theorem q1814 : (Jvm.Cond.lays "java/lang/ArrayIndexOutOfBoundsException" "java/lang/Throwable" "depth" "I") ∈ lw_all := lw_g (lw_at lw_m7 225 rfl) rfl
theorem q1815 : (Jvm.Cond.lays "java/lang/ArrayIndexOutOfBoundsException" "java/lang/Throwable" "suppressedExceptions" "Ljava/util/List;") ∈ lw_all := lw_g (lw_at lw_m7 226 rfl) rfl
theorem q1816 : (Jvm.Cond.superclass "java/lang/ArrayIndexOutOfBoundsException" "java/lang/IndexOutOfBoundsException") ∈ lw_all := lw_g (lw_at lw_m7 227 rfl) rfl
theorem q1817 : (Jvm.Cond.castable "java/lang/ArrayIndexOutOfBoundsException" "java/lang/ArrayIndexOutOfBoundsException") ∈ lw_tbl := lw_at lw_m7 228 rfl
theorem q1818 : (Jvm.Cond.declares ({ cls := "java/lang/IndexOutOfBoundsException", name := "<init>", desc := "()V" } : Jvm.MethodName)) ∈ lw_tbl := lw_at lw_m7 229 rfl
theorem q1819 : (Jvm.Cond.declares ({ cls := "java/lang/IndexOutOfBoundsException", name := "<init>", desc := "(Ljava/lang/String;)V" } : Jvm.MethodName)) ∈ lw_tbl := lw_at lw_m7 230 rfl
theorem q1820 : (Jvm.Cond.selects "java/lang/ArrayIndexOutOfBoundsException" ({ cls := "java/lang/Throwable", name := "fillInStackTrace", desc := "(I)Ljava/lang/Throwable;" } : Jvm.MethodName) ({ cls := "java/lang/Throwable", name := "fillInStackTrace", desc := "(I)Ljava/lang/Throwable;" } : Jvm.MethodName)) ∈ lw_all := lw_g (lw_at lw_m7 231 rfl) rfl
theorem q1821 : (Jvm.Cond.instantiable "java/lang/String" (4 : Nat)) ∈ lw_all := lw_g (lw_at lw_m7 232 rfl) rfl
theorem q1822 : (Jvm.Cond.laysFinal "java/lang/String" "java/lang/String" "value" "[B") ∈ lw_all := lw_g (lw_at lw_m7 233 rfl) rfl
theorem q1823 : (Jvm.Cond.soleField "java/lang/String" "value") ∈ lw_all := lw_g (lw_at lw_m7 234 rfl) rfl
theorem q1824 : (Jvm.Cond.laysFinal "java/lang/String" "java/lang/String" "coder" "B") ∈ lw_all := lw_g (lw_at lw_m7 235 rfl) rfl
theorem q1825 : (Jvm.Cond.soleField "java/lang/String" "coder") ∈ lw_all := lw_g (lw_at lw_m7 236 rfl) rfl
theorem q1826 : (Jvm.Cond.methodLink "CoinJudgeLaw" (7 : Nat) ({ cls := "CoinJudge", name := "feed", desc := "(IIIII)I" } : Jvm.MethodName)) ∈ lw_all := lw_g (lw_at lw_m7 237 rfl) rfl
theorem q1827 : (Jvm.Cond.instanceMethod ({ cls := "CoinJudge", name := "feed", desc := "(IIIII)I" } : Jvm.MethodName)) ∈ lw_all := lw_g (lw_at lw_m7 238 rfl) rfl
theorem q1828 : (Jvm.Cond.selects "CoinJudge" ({ cls := "CoinJudge", name := "feed", desc := "(IIIII)I" } : Jvm.MethodName) ({ cls := "CoinJudge", name := "feed", desc := "(IIIII)I" } : Jvm.MethodName)) ∈ lw_all := lw_g (lw_at lw_m7 239 rfl) rfl
theorem q1829 : (Jvm.Cond.code ({ cls := "CoinJudge", name := "feed", desc := "(IIIII)I" } : Jvm.MethodName) prog_1_method_31_code (8 : Nat) (Option.some Jvm.ClassFile.FieldType.int)) ∈ lw_all := lw_g (lw_at lw_m8 0 rfl) rfl
theorem q1830 : (Jvm.Cond.classLink "CoinJudge" (426 : Nat) "java/lang/IndexOutOfBoundsException") ∈ lw_all := lw_g (lw_at lw_m8 1 rfl) rfl
theorem q1831 : (Jvm.Cond.methodLink "CoinJudge" (428 : Nat) ({ cls := "java/lang/IndexOutOfBoundsException", name := "<init>", desc := "()V" } : Jvm.MethodName)) ∈ lw_all := lw_g (lw_at lw_m8 2 rfl) rfl
theorem q1832 : (Jvm.Cond.methodLink "CoinJudgeLaw" (93 : Nat) ({ cls := "CoinJudgeLaw", name := "end", desc := "(LCoinJudge;I[J)I" } : Jvm.MethodName)) ∈ lw_all := lw_g (lw_at lw_m8 3 rfl) rfl
theorem q1833 : (Jvm.Cond.static ({ cls := "CoinJudgeLaw", name := "end", desc := "(LCoinJudge;I[J)I" } : Jvm.MethodName)) ∈ lw_all := lw_g (lw_at lw_m8 4 rfl) rfl
theorem q1834 : (Jvm.Cond.codeWith ({ cls := "CoinJudgeLaw", name := "end", desc := "(LCoinJudge;I[J)I" } : Jvm.MethodName) method_4_code (4 : Nat) (Option.some Jvm.ClassFile.FieldType.int) [((0 : Nat), (9 : Nat), (12 : Nat), (19 : Nat))]) ∈ lw_all := lw_g (lw_at lw_m8 5 rfl) rfl
theorem q1835 : (Jvm.Cond.classLink "CoinJudgeLaw" (19 : Nat) "java/lang/IllegalArgumentException") ∈ lw_all := lw_g (lw_at lw_m8 6 rfl) rfl
theorem q1836 : (Jvm.Cond.methodLink "CoinJudgeLaw" (15 : Nat) ({ cls := "CoinJudge", name := "end", desc := "(I)I" } : Jvm.MethodName)) ∈ lw_all := lw_g (lw_at lw_m8 7 rfl) rfl
theorem q1837 : (Jvm.Cond.instanceMethod ({ cls := "CoinJudge", name := "end", desc := "(I)I" } : Jvm.MethodName)) ∈ lw_all := lw_g (lw_at lw_m8 8 rfl) rfl
theorem q1838 : (Jvm.Cond.selects "CoinJudge" ({ cls := "CoinJudge", name := "end", desc := "(I)I" } : Jvm.MethodName) ({ cls := "CoinJudge", name := "end", desc := "(I)I" } : Jvm.MethodName)) ∈ lw_all := lw_g (lw_at lw_m8 9 rfl) rfl
theorem q1839 : (Jvm.Cond.code ({ cls := "CoinJudge", name := "end", desc := "(I)I" } : Jvm.MethodName) prog_1_method_32_code (2 : Nat) (Option.some Jvm.ClassFile.FieldType.int)) ∈ lw_all := lw_g (lw_at lw_m8 10 rfl) rfl
theorem q1840 : (Jvm.Cond.methodLink "CoinJudge" (538 : Nat) ({ cls := "CoinJudge", name := "need", desc := "(Z)V" } : Jvm.MethodName)) ∈ lw_all := lw_g (lw_at lw_m8 11 rfl) rfl
theorem q1841 : (Jvm.Cond.static ({ cls := "CoinJudge", name := "need", desc := "(Z)V" } : Jvm.MethodName)) ∈ lw_all := lw_g (lw_at lw_m8 12 rfl) rfl
theorem q1842 : (Jvm.Cond.code ({ cls := "CoinJudge", name := "need", desc := "(Z)V" } : Jvm.MethodName) prog_1_method_29_code (1 : Nat) (Option.none : Option Jvm.ClassFile.FieldType)) ∈ lw_all := lw_g (lw_at lw_m8 13 rfl) rfl
theorem q1843 : (Jvm.Cond.classLink "CoinJudge" (532 : Nat) "java/lang/IllegalArgumentException") ∈ lw_all := lw_g (lw_at lw_m8 14 rfl) rfl
theorem q1844 : (Jvm.Cond.instantiable "java/lang/IllegalArgumentException" (6 : Nat)) ∈ lw_all := lw_g (lw_at lw_m8 15 rfl) rfl
theorem q1845 : (Jvm.Cond.castable "java/lang/IllegalArgumentException" "java/lang/IllegalArgumentException") ∈ lw_tbl := lw_at lw_m8 16 rfl
theorem q1846 : (Jvm.Cond.selects "java/lang/IllegalArgumentException" ({ cls := "java/lang/Throwable", name := "fillInStackTrace", desc := "(I)Ljava/lang/Throwable;" } : Jvm.MethodName) ({ cls := "java/lang/Throwable", name := "fillInStackTrace", desc := "(I)Ljava/lang/Throwable;" } : Jvm.MethodName)) ∈ lw_all := lw_g (lw_at lw_m8 17 rfl) rfl
theorem q1847 : (Jvm.Cond.lays "java/lang/IllegalArgumentException" "java/lang/Throwable" "cause" "Ljava/lang/Throwable;") ∈ lw_all := lw_g (lw_at lw_m8 18 rfl) rfl
theorem q1848 : (Jvm.Cond.lays "java/lang/IllegalArgumentException" "java/lang/Throwable" "stackTrace" "[Ljava/lang/StackTraceElement;") ∈ lw_all := lw_g (lw_at lw_m8 19 rfl) rfl
theorem q1849 : (Jvm.Cond.lays "java/lang/IllegalArgumentException" "java/lang/Throwable" "suppressedExceptions" "Ljava/util/List;") ∈ lw_all := lw_g (lw_at lw_m8 20 rfl) rfl
theorem q1850 : (Jvm.Cond.lays "java/lang/IllegalArgumentException" "java/lang/Throwable" "detailMessage" "Ljava/lang/String;") ∈ lw_all := lw_g (lw_at lw_m8 21 rfl) rfl
theorem q1851 : (Jvm.Cond.lays "java/lang/IllegalArgumentException" "java/lang/Throwable" "backtrace" "Ljava/lang/Object;") ∈ lw_all := lw_g (lw_at lw_m8 22 rfl) rfl
theorem q1852 : (Jvm.Cond.methodLink "CoinJudge" (534 : Nat) ({ cls := "java/lang/IllegalArgumentException", name := "<init>", desc := "()V" } : Jvm.MethodName)) ∈ lw_all := lw_g (lw_at lw_m8 23 rfl) rfl
theorem q1853 : (Jvm.Cond.instanceMethod ({ cls := "java/lang/IllegalArgumentException", name := "<init>", desc := "()V" } : Jvm.MethodName)) ∈ lw_all := lw_g (lw_at lw_m8 24 rfl) rfl
theorem q1854 : (Jvm.Cond.code ({ cls := "java/lang/IllegalArgumentException", name := "<init>", desc := "()V" } : Jvm.MethodName) prog_37_method_1_code (1 : Nat) (Option.none : Option Jvm.ClassFile.FieldType)) ∈ lw_all := lw_g (lw_at lw_m8 25 rfl) rfl
theorem q1855 : (Jvm.Cond.methodLink "java/lang/IllegalArgumentException" (1 : Nat) ({ cls := "java/lang/RuntimeException", name := "<init>", desc := "()V" } : Jvm.MethodName)) ∈ lw_all := lw_g (lw_at lw_m8 26 rfl) rfl
theorem q1856 : (Jvm.Cond.lays "java/lang/IllegalArgumentException" "java/lang/Throwable" "depth" "I") ∈ lw_all := lw_g (lw_at lw_m8 27 rfl) rfl
theorem q1857 : (Jvm.Cond.superclass "java/lang/IllegalArgumentException" "java/lang/RuntimeException") ∈ lw_all := lw_g (lw_at lw_m8 28 rfl) rfl
theorem q1858 : (Jvm.Cond.methodLink "CoinJudgeLaw" (97 : Nat) ({ cls := "CoinJudgeLaw", name := "patch", desc := "(LCoinJudge;II[J)I" } : Jvm.MethodName)) ∈ lw_all := lw_g (lw_at lw_m8 29 rfl) rfl
theorem q1859 : (Jvm.Cond.static ({ cls := "CoinJudgeLaw", name := "patch", desc := "(LCoinJudge;II[J)I" } : Jvm.MethodName)) ∈ lw_all := lw_g (lw_at lw_m8 30 rfl) rfl
theorem q1860 : (Jvm.Cond.codeWith ({ cls := "CoinJudgeLaw", name := "patch", desc := "(LCoinJudge;II[J)I" } : Jvm.MethodName) method_5_code (5 : Nat) (Option.some Jvm.ClassFile.FieldType.int) [((0 : Nat), (10 : Nat), (13 : Nat), (19 : Nat))]) ∈ lw_all := lw_g (lw_at lw_m8 31 rfl) rfl
theorem q1861 : (Jvm.Cond.methodLink "CoinJudgeLaw" (21 : Nat) ({ cls := "CoinJudge", name := "patch", desc := "(II)I" } : Jvm.MethodName)) ∈ lw_all := lw_g (lw_at lw_m8 32 rfl) rfl
theorem q1862 : (Jvm.Cond.instanceMethod ({ cls := "CoinJudge", name := "patch", desc := "(II)I" } : Jvm.MethodName)) ∈ lw_all := lw_g (lw_at lw_m8 33 rfl) rfl
theorem q1863 : (Jvm.Cond.selects "CoinJudge" ({ cls := "CoinJudge", name := "patch", desc := "(II)I" } : Jvm.MethodName) ({ cls := "CoinJudge", name := "patch", desc := "(II)I" } : Jvm.MethodName)) ∈ lw_all := lw_g (lw_at lw_m8 34 rfl) rfl
theorem q1864 : (Jvm.Cond.code ({ cls := "CoinJudge", name := "patch", desc := "(II)I" } : Jvm.MethodName) prog_1_method_33_code (4 : Nat) (Option.some Jvm.ClassFile.FieldType.int)) ∈ lw_all := lw_g (lw_at lw_m8 35 rfl) rfl
theorem q1865 : (Jvm.Cond.methodLink "CoinJudgeLaw" (101 : Nat) ({ cls := "CoinJudgeLaw", name := "key", desc := "(LCoinJudge;II[J)I" } : Jvm.MethodName)) ∈ lw_all := lw_g (lw_at lw_m8 36 rfl) rfl
theorem q1866 : (Jvm.Cond.static ({ cls := "CoinJudgeLaw", name := "key", desc := "(LCoinJudge;II[J)I" } : Jvm.MethodName)) ∈ lw_all := lw_g (lw_at lw_m8 37 rfl) rfl
theorem q1867 : (Jvm.Cond.codeWith ({ cls := "CoinJudgeLaw", name := "key", desc := "(LCoinJudge;II[J)I" } : Jvm.MethodName) method_6_code (5 : Nat) (Option.some Jvm.ClassFile.FieldType.int) [((0 : Nat), (10 : Nat), (13 : Nat), (19 : Nat)), ((0 : Nat), (10 : Nat), (17 : Nat), (13 : Nat))]) ∈ lw_all := lw_g (lw_at lw_m8 38 rfl) rfl
theorem q1868 : (Jvm.Cond.methodLink "CoinJudgeLaw" (25 : Nat) ({ cls := "CoinJudge", name := "key", desc := "(II)I" } : Jvm.MethodName)) ∈ lw_all := lw_g (lw_at lw_m8 39 rfl) rfl
theorem q1869 : (Jvm.Cond.instanceMethod ({ cls := "CoinJudge", name := "key", desc := "(II)I" } : Jvm.MethodName)) ∈ lw_all := lw_g (lw_at lw_m8 40 rfl) rfl
theorem q1870 : (Jvm.Cond.selects "CoinJudge" ({ cls := "CoinJudge", name := "key", desc := "(II)I" } : Jvm.MethodName) ({ cls := "CoinJudge", name := "key", desc := "(II)I" } : Jvm.MethodName)) ∈ lw_all := lw_g (lw_at lw_m8 41 rfl) rfl
theorem q1871 : (Jvm.Cond.code ({ cls := "CoinJudge", name := "key", desc := "(II)I" } : Jvm.MethodName) prog_1_method_35_code (7 : Nat) (Option.some Jvm.ClassFile.FieldType.int)) ∈ lw_all := lw_g (lw_at lw_m8 42 rfl) rfl
theorem q1872 : (Jvm.Cond.methodLink "CoinJudge" (542 : Nat) ({ cls := "CoinJudge", name := "secret", desc := "(I)LCoinJudge$Big;" } : Jvm.MethodName)) ∈ lw_all := lw_g (lw_at lw_m8 43 rfl) rfl
theorem q1873 : (Jvm.Cond.privateMethod ({ cls := "CoinJudge", name := "secret", desc := "(I)LCoinJudge$Big;" } : Jvm.MethodName)) ∈ lw_tbl := lw_at lw_m8 44 rfl
theorem q1874 : (Jvm.Cond.instanceMethod ({ cls := "CoinJudge", name := "secret", desc := "(I)LCoinJudge$Big;" } : Jvm.MethodName)) ∈ lw_all := lw_g (lw_at lw_m8 45 rfl) rfl
theorem q1875 : (Jvm.Cond.code ({ cls := "CoinJudge", name := "secret", desc := "(I)LCoinJudge$Big;" } : Jvm.MethodName) prog_1_method_34_code (2 : Nat) (Option.some (Jvm.ClassFile.FieldType.object "CoinJudge$Big"))) ∈ lw_all := lw_g (lw_at lw_m8 46 rfl) rfl
theorem q1876 : (Jvm.Cond.methodLink "CoinJudge" (545 : Nat) ({ cls := "CoinJudge$Curve", name := "keyOf", desc := "(LCoinJudge$Big;Z[BI)I" } : Jvm.MethodName)) ∈ lw_all := lw_g (lw_at lw_m8 47 rfl) rfl
theorem q1877 : (Jvm.Cond.instanceMethod ({ cls := "CoinJudge$Curve", name := "keyOf", desc := "(LCoinJudge$Big;Z[BI)I" } : Jvm.MethodName)) ∈ lw_all := lw_g (lw_at lw_m8 48 rfl) rfl
theorem q1878 : (Jvm.Cond.selects "CoinJudge$Curve" ({ cls := "CoinJudge$Curve", name := "keyOf", desc := "(LCoinJudge$Big;Z[BI)I" } : Jvm.MethodName) ({ cls := "CoinJudge$Curve", name := "keyOf", desc := "(LCoinJudge$Big;Z[BI)I" } : Jvm.MethodName)) ∈ lw_all := lw_g (lw_at lw_m8 49 rfl) rfl
theorem q1879 : (Jvm.Cond.code ({ cls := "CoinJudge$Curve", name := "keyOf", desc := "(LCoinJudge$Big;Z[BI)I" } : Jvm.MethodName) prog_7_method_12_code (5 : Nat) (Option.some Jvm.ClassFile.FieldType.int)) ∈ lw_all := lw_g (lw_at lw_m8 50 rfl) rfl
theorem q1880 : (Jvm.Cond.methodLink "CoinJudge$Curve" (191 : Nat) ({ cls := "CoinJudge$Big", name := "write", desc := "([BI)V" } : Jvm.MethodName)) ∈ lw_all := lw_g (lw_at lw_m8 51 rfl) rfl
theorem q1881 : (Jvm.Cond.instanceMethod ({ cls := "CoinJudge$Big", name := "write", desc := "([BI)V" } : Jvm.MethodName)) ∈ lw_all := lw_g (lw_at lw_m8 52 rfl) rfl
theorem q1882 : (Jvm.Cond.selects "CoinJudge$Big" ({ cls := "CoinJudge$Big", name := "write", desc := "([BI)V" } : Jvm.MethodName) ({ cls := "CoinJudge$Big", name := "write", desc := "([BI)V" } : Jvm.MethodName)) ∈ lw_all := lw_g (lw_at lw_m8 53 rfl) rfl
theorem q1883 : (Jvm.Cond.code ({ cls := "CoinJudge$Big", name := "write", desc := "([BI)V" } : Jvm.MethodName) prog_2_method_14_code (4 : Nat) (Option.none : Option Jvm.ClassFile.FieldType)) ∈ lw_all := lw_g (lw_at lw_m8 54 rfl) rfl
theorem q1884 : (Jvm.Cond.methodLink "CoinJudge" (549 : Nat) ({ cls := "CoinJudge$Digests", name := "hash160", desc := "([BII[BI)V" } : Jvm.MethodName)) ∈ lw_all := lw_g (lw_at lw_m8 55 rfl) rfl
theorem q1885 : (Jvm.Cond.methodLink "CoinJudgeLaw" (104 : Nat) ({ cls := "CoinJudgeLaw", name := "digest", desc := "(LCoinJudge;I[J)I" } : Jvm.MethodName)) ∈ lw_all := lw_g (lw_at lw_m8 56 rfl) rfl
theorem q1886 : (Jvm.Cond.static ({ cls := "CoinJudgeLaw", name := "digest", desc := "(LCoinJudge;I[J)I" } : Jvm.MethodName)) ∈ lw_all := lw_g (lw_at lw_m8 57 rfl) rfl
theorem q1887 : (Jvm.Cond.codeWith ({ cls := "CoinJudgeLaw", name := "digest", desc := "(LCoinJudge;I[J)I" } : Jvm.MethodName) method_7_code (4 : Nat) (Option.some Jvm.ClassFile.FieldType.int) [((0 : Nat), (9 : Nat), (12 : Nat), (19 : Nat))]) ∈ lw_all := lw_g (lw_at lw_m8 58 rfl) rfl
theorem q1888 : (Jvm.Cond.methodLink "CoinJudgeLaw" (28 : Nat) ({ cls := "CoinJudge", name := "digest", desc := "(I)I" } : Jvm.MethodName)) ∈ lw_all := lw_g (lw_at lw_m8 59 rfl) rfl
theorem q1889 : (Jvm.Cond.instanceMethod ({ cls := "CoinJudge", name := "digest", desc := "(I)I" } : Jvm.MethodName)) ∈ lw_all := lw_g (lw_at lw_m8 60 rfl) rfl
theorem q1890 : (Jvm.Cond.selects "CoinJudge" ({ cls := "CoinJudge", name := "digest", desc := "(I)I" } : Jvm.MethodName) ({ cls := "CoinJudge", name := "digest", desc := "(I)I" } : Jvm.MethodName)) ∈ lw_all := lw_g (lw_at lw_m8 61 rfl) rfl
theorem q1891 : (Jvm.Cond.code ({ cls := "CoinJudge", name := "digest", desc := "(I)I" } : Jvm.MethodName) prog_1_method_36_code (4 : Nat) (Option.some Jvm.ClassFile.FieldType.int)) ∈ lw_all := lw_g (lw_at lw_m8 62 rfl) rfl
theorem q1892 : (Jvm.Cond.methodLink "CoinJudge" (552 : Nat) ({ cls := "CoinJudge$Digests", name := "sha", desc := "([BII[BI)V" } : Jvm.MethodName)) ∈ lw_all := lw_g (lw_at lw_m8 63 rfl) rfl
theorem q1893 : (Jvm.Cond.methodLink "CoinJudge" (555 : Nat) ({ cls := "CoinJudge$Digests", name := "ripe", desc := "([BII[BI)V" } : Jvm.MethodName)) ∈ lw_all := lw_g (lw_at lw_m8 64 rfl) rfl
theorem q1894 : (Jvm.Cond.methodLink "CoinJudgeLaw" (109 : Nat) ({ cls := "CoinJudgeLaw", name := "open", desc := "(LCoinJudge;IJ)I" } : Jvm.MethodName)) ∈ lw_all := lw_g (lw_at lw_m8 65 rfl) rfl
theorem q1895 : (Jvm.Cond.static ({ cls := "CoinJudgeLaw", name := "open", desc := "(LCoinJudge;IJ)I" } : Jvm.MethodName)) ∈ lw_all := lw_g (lw_at lw_m8 66 rfl) rfl
theorem q1896 : (Jvm.Cond.codeWith ({ cls := "CoinJudgeLaw", name := "open", desc := "(LCoinJudge;IJ)I" } : Jvm.MethodName) method_8_code (5 : Nat) (Option.some Jvm.ClassFile.FieldType.int) [((0 : Nat), (6 : Nat), (9 : Nat), (19 : Nat))]) ∈ lw_all := lw_g (lw_at lw_m8 67 rfl) rfl
theorem q1897 : (Jvm.Cond.methodLink "CoinJudgeLaw" (31 : Nat) ({ cls := "CoinJudge", name := "open", desc := "(IJ)V" } : Jvm.MethodName)) ∈ lw_all := lw_g (lw_at lw_m8 68 rfl) rfl
theorem q1898 : (Jvm.Cond.instanceMethod ({ cls := "CoinJudge", name := "open", desc := "(IJ)V" } : Jvm.MethodName)) ∈ lw_all := lw_g (lw_at lw_m8 69 rfl) rfl
theorem q1899 : (Jvm.Cond.selects "CoinJudge" ({ cls := "CoinJudge", name := "open", desc := "(IJ)V" } : Jvm.MethodName) ({ cls := "CoinJudge", name := "open", desc := "(IJ)V" } : Jvm.MethodName)) ∈ lw_all := lw_g (lw_at lw_m8 70 rfl) rfl
theorem q1900 : (Jvm.Cond.code ({ cls := "CoinJudge", name := "open", desc := "(IJ)V" } : Jvm.MethodName) prog_1_method_37_code (4 : Nat) (Option.none : Option Jvm.ClassFile.FieldType)) ∈ lw_all := lw_g (lw_at lw_m8 71 rfl) rfl
theorem q1901 : (Jvm.Cond.methodLink "CoinJudgeLaw" (113 : Nat) ({ cls := "CoinJudgeLaw", name := "tx", desc := "(LCoinJudge;JJ[J)I" } : Jvm.MethodName)) ∈ lw_all := lw_g (lw_at lw_m8 72 rfl) rfl
theorem q1902 : (Jvm.Cond.static ({ cls := "CoinJudgeLaw", name := "tx", desc := "(LCoinJudge;JJ[J)I" } : Jvm.MethodName)) ∈ lw_all := lw_g (lw_at lw_m8 73 rfl) rfl
theorem q1903 : (Jvm.Cond.codeWith ({ cls := "CoinJudgeLaw", name := "tx", desc := "(LCoinJudge;JJ[J)I" } : Jvm.MethodName) method_9_code (7 : Nat) (Option.some Jvm.ClassFile.FieldType.int) [((0 : Nat), (11 : Nat), (14 : Nat), (19 : Nat)), ((0 : Nat), (11 : Nat), (18 : Nat), (13 : Nat))]) ∈ lw_all := lw_g (lw_at lw_m8 74 rfl) rfl
theorem q1904 : (Jvm.Cond.methodLink "CoinJudgeLaw" (35 : Nat) ({ cls := "CoinJudge", name := "tx", desc := "(JJ)I" } : Jvm.MethodName)) ∈ lw_all := lw_g (lw_at lw_m8 75 rfl) rfl
theorem q1905 : (Jvm.Cond.instanceMethod ({ cls := "CoinJudge", name := "tx", desc := "(JJ)I" } : Jvm.MethodName)) ∈ lw_all := lw_g (lw_at lw_m8 76 rfl) rfl
theorem q1906 : (Jvm.Cond.selects "CoinJudge" ({ cls := "CoinJudge", name := "tx", desc := "(JJ)I" } : Jvm.MethodName) ({ cls := "CoinJudge", name := "tx", desc := "(JJ)I" } : Jvm.MethodName)) ∈ lw_all := lw_g (lw_at lw_m8 77 rfl) rfl
theorem q1907 : (Jvm.Cond.code ({ cls := "CoinJudge", name := "tx", desc := "(JJ)I" } : Jvm.MethodName) prog_1_method_38_code (5 : Nat) (Option.some Jvm.ClassFile.FieldType.int)) ∈ lw_all := lw_g (lw_at lw_m8 78 rfl) rfl
theorem q1908 : (Jvm.Cond.methodLink "CoinJudgeLaw" (117 : Nat) ({ cls := "CoinJudgeLaw", name := "input", desc := "(LCoinJudge;IIIJ[J)I" } : Jvm.MethodName)) ∈ lw_all := lw_g (lw_at lw_m8 79 rfl) rfl
theorem q1909 : (Jvm.Cond.static ({ cls := "CoinJudgeLaw", name := "input", desc := "(LCoinJudge;IIIJ[J)I" } : Jvm.MethodName)) ∈ lw_all := lw_g (lw_at lw_m8 80 rfl) rfl
theorem q1910 : (Jvm.Cond.codeWith ({ cls := "CoinJudgeLaw", name := "input", desc := "(LCoinJudge;IIIJ[J)I" } : Jvm.MethodName) method_10_code (8 : Nat) (Option.some Jvm.ClassFile.FieldType.int) [((0 : Nat), (14 : Nat), (17 : Nat), (19 : Nat)), ((0 : Nat), (14 : Nat), (21 : Nat), (43 : Nat)), ((0 : Nat), (14 : Nat), (25 : Nat), (13 : Nat))]) ∈ lw_all := lw_g (lw_at lw_m8 81 rfl) rfl
theorem q1911 : (Jvm.Cond.classLink "CoinJudgeLaw" (43 : Nat) "java/lang/IllegalStateException") ∈ lw_all := lw_g (lw_at lw_m8 82 rfl) rfl
theorem q1912 : (Jvm.Cond.methodLink "CoinJudgeLaw" (39 : Nat) ({ cls := "CoinJudge", name := "input", desc := "(IIIJ)I" } : Jvm.MethodName)) ∈ lw_all := lw_g (lw_at lw_m8 83 rfl) rfl
theorem q1913 : (Jvm.Cond.instanceMethod ({ cls := "CoinJudge", name := "input", desc := "(IIIJ)I" } : Jvm.MethodName)) ∈ lw_all := lw_g (lw_at lw_m8 84 rfl) rfl
theorem q1914 : (Jvm.Cond.selects "CoinJudge" ({ cls := "CoinJudge", name := "input", desc := "(IIIJ)I" } : Jvm.MethodName) ({ cls := "CoinJudge", name := "input", desc := "(IIIJ)I" } : Jvm.MethodName)) ∈ lw_all := lw_g (lw_at lw_m8 85 rfl) rfl
theorem q1915 : (Jvm.Cond.code ({ cls := "CoinJudge", name := "input", desc := "(IIIJ)I" } : Jvm.MethodName) prog_1_method_39_code (7 : Nat) (Option.some Jvm.ClassFile.FieldType.int)) ∈ lw_all := lw_g (lw_at lw_m8 86 rfl) rfl
theorem q1916 : (Jvm.Cond.methodLink "CoinJudge" (558 : Nat) ({ cls := "CoinJudge", name := "needState", desc := "(Z)V" } : Jvm.MethodName)) ∈ lw_all := lw_g (lw_at lw_m8 87 rfl) rfl
theorem q1917 : (Jvm.Cond.static ({ cls := "CoinJudge", name := "needState", desc := "(Z)V" } : Jvm.MethodName)) ∈ lw_all := lw_g (lw_at lw_m8 88 rfl) rfl
theorem q1918 : (Jvm.Cond.code ({ cls := "CoinJudge", name := "needState", desc := "(Z)V" } : Jvm.MethodName) prog_1_method_30_code (1 : Nat) (Option.none : Option Jvm.ClassFile.FieldType)) ∈ lw_all := lw_g (lw_at lw_m8 89 rfl) rfl
theorem q1919 : (Jvm.Cond.classLink "CoinJudge" (535 : Nat) "java/lang/IllegalStateException") ∈ lw_all := lw_g (lw_at lw_m8 90 rfl) rfl
theorem q1920 : (Jvm.Cond.instantiable "java/lang/IllegalStateException" (6 : Nat)) ∈ lw_all := lw_g (lw_at lw_m8 91 rfl) rfl
theorem q1921 : (Jvm.Cond.castable "java/lang/IllegalStateException" "java/lang/IllegalStateException") ∈ lw_tbl := lw_at lw_m8 92 rfl
theorem q1922 : (Jvm.Cond.selects "java/lang/IllegalStateException" ({ cls := "java/lang/Throwable", name := "fillInStackTrace", desc := "(I)Ljava/lang/Throwable;" } : Jvm.MethodName) ({ cls := "java/lang/Throwable", name := "fillInStackTrace", desc := "(I)Ljava/lang/Throwable;" } : Jvm.MethodName)) ∈ lw_all := lw_g (lw_at lw_m8 93 rfl) rfl
theorem q1923 : (Jvm.Cond.lays "java/lang/IllegalStateException" "java/lang/Throwable" "cause" "Ljava/lang/Throwable;") ∈ lw_all := lw_g (lw_at lw_m8 94 rfl) rfl
theorem q1924 : (Jvm.Cond.lays "java/lang/IllegalStateException" "java/lang/Throwable" "stackTrace" "[Ljava/lang/StackTraceElement;") ∈ lw_all := lw_g (lw_at lw_m8 95 rfl) rfl
theorem q1925 : (Jvm.Cond.lays "java/lang/IllegalStateException" "java/lang/Throwable" "suppressedExceptions" "Ljava/util/List;") ∈ lw_all := lw_g (lw_at lw_m8 96 rfl) rfl
theorem q1926 : (Jvm.Cond.lays "java/lang/IllegalStateException" "java/lang/Throwable" "detailMessage" "Ljava/lang/String;") ∈ lw_all := lw_g (lw_at lw_m8 97 rfl) rfl
theorem q1927 : (Jvm.Cond.lays "java/lang/IllegalStateException" "java/lang/Throwable" "backtrace" "Ljava/lang/Object;") ∈ lw_all := lw_g (lw_at lw_m8 98 rfl) rfl
theorem q1928 : (Jvm.Cond.methodLink "CoinJudge" (537 : Nat) ({ cls := "java/lang/IllegalStateException", name := "<init>", desc := "()V" } : Jvm.MethodName)) ∈ lw_all := lw_g (lw_at lw_m8 99 rfl) rfl
theorem q1929 : (Jvm.Cond.instanceMethod ({ cls := "java/lang/IllegalStateException", name := "<init>", desc := "()V" } : Jvm.MethodName)) ∈ lw_all := lw_g (lw_at lw_m8 100 rfl) rfl
theorem q1930 : (Jvm.Cond.code ({ cls := "java/lang/IllegalStateException", name := "<init>", desc := "()V" } : Jvm.MethodName) prog_38_method_1_code (1 : Nat) (Option.none : Option Jvm.ClassFile.FieldType)) ∈ lw_all := lw_g (lw_at lw_m8 101 rfl) rfl
theorem q1931 : (Jvm.Cond.methodLink "java/lang/IllegalStateException" (1 : Nat) ({ cls := "java/lang/RuntimeException", name := "<init>", desc := "()V" } : Jvm.MethodName)) ∈ lw_all := lw_g (lw_at lw_m8 102 rfl) rfl
theorem q1932 : (Jvm.Cond.lays "java/lang/IllegalStateException" "java/lang/Throwable" "depth" "I") ∈ lw_all := lw_g (lw_at lw_m8 103 rfl) rfl
theorem q1933 : (Jvm.Cond.superclass "java/lang/IllegalStateException" "java/lang/RuntimeException") ∈ lw_all := lw_g (lw_at lw_m8 104 rfl) rfl
theorem q1934 : (Jvm.Cond.methodLink "CoinJudge" (561 : Nat) ({ cls := "CoinJudge$Draft", name := "latest", desc := "()LCoinJudge$DraftTx;" } : Jvm.MethodName)) ∈ lw_all := lw_g (lw_at lw_m8 105 rfl) rfl
theorem q1935 : (Jvm.Cond.methodLink "CoinJudgeLaw" (121 : Nat) ({ cls := "CoinJudgeLaw", name := "output", desc := "(LCoinJudge;J[J)I" } : Jvm.MethodName)) ∈ lw_all := lw_g (lw_at lw_m8 106 rfl) rfl
theorem q1936 : (Jvm.Cond.static ({ cls := "CoinJudgeLaw", name := "output", desc := "(LCoinJudge;J[J)I" } : Jvm.MethodName)) ∈ lw_all := lw_g (lw_at lw_m8 107 rfl) rfl
theorem q1937 : (Jvm.Cond.codeWith ({ cls := "CoinJudgeLaw", name := "output", desc := "(LCoinJudge;J[J)I" } : Jvm.MethodName) method_11_code (5 : Nat) (Option.some Jvm.ClassFile.FieldType.int) [((0 : Nat), (9 : Nat), (12 : Nat), (43 : Nat)), ((0 : Nat), (9 : Nat), (16 : Nat), (13 : Nat))]) ∈ lw_all := lw_g (lw_at lw_m8 108 rfl) rfl
theorem q1938 : (Jvm.Cond.methodLink "CoinJudgeLaw" (45 : Nat) ({ cls := "CoinJudge", name := "output", desc := "(J)I" } : Jvm.MethodName)) ∈ lw_all := lw_g (lw_at lw_m8 109 rfl) rfl
theorem q1939 : (Jvm.Cond.instanceMethod ({ cls := "CoinJudge", name := "output", desc := "(J)I" } : Jvm.MethodName)) ∈ lw_all := lw_g (lw_at lw_m8 110 rfl) rfl
theorem q1940 : (Jvm.Cond.selects "CoinJudge" ({ cls := "CoinJudge", name := "output", desc := "(J)I" } : Jvm.MethodName) ({ cls := "CoinJudge", name := "output", desc := "(J)I" } : Jvm.MethodName)) ∈ lw_all := lw_g (lw_at lw_m8 111 rfl) rfl
theorem q1941 : (Jvm.Cond.code ({ cls := "CoinJudge", name := "output", desc := "(J)I" } : Jvm.MethodName) prog_1_method_40_code (3 : Nat) (Option.some Jvm.ClassFile.FieldType.int)) ∈ lw_all := lw_g (lw_at lw_m8 112 rfl) rfl
theorem q1942 : (Jvm.Cond.methodLink "CoinJudgeLaw" (125 : Nat) ({ cls := "CoinJudgeLaw", name := "push", desc := "(LCoinJudge;I[J)I" } : Jvm.MethodName)) ∈ lw_all := lw_g (lw_at lw_m8 113 rfl) rfl
theorem q1943 : (Jvm.Cond.static ({ cls := "CoinJudgeLaw", name := "push", desc := "(LCoinJudge;I[J)I" } : Jvm.MethodName)) ∈ lw_all := lw_g (lw_at lw_m8 114 rfl) rfl
theorem q1944 : (Jvm.Cond.codeWith ({ cls := "CoinJudgeLaw", name := "push", desc := "(LCoinJudge;I[J)I" } : Jvm.MethodName) method_12_code (4 : Nat) (Option.some Jvm.ClassFile.FieldType.int) [((0 : Nat), (9 : Nat), (12 : Nat), (19 : Nat)), ((0 : Nat), (9 : Nat), (15 : Nat), (43 : Nat)), ((0 : Nat), (9 : Nat), (18 : Nat), (13 : Nat))]) ∈ lw_all := lw_g (lw_at lw_m8 115 rfl) rfl
theorem q1945 : (Jvm.Cond.methodLink "CoinJudgeLaw" (49 : Nat) ({ cls := "CoinJudge", name := "push", desc := "(I)I" } : Jvm.MethodName)) ∈ lw_all := lw_g (lw_at lw_m8 116 rfl) rfl
theorem q1946 : (Jvm.Cond.instanceMethod ({ cls := "CoinJudge", name := "push", desc := "(I)I" } : Jvm.MethodName)) ∈ lw_all := lw_g (lw_at lw_m8 117 rfl) rfl
theorem q1947 : (Jvm.Cond.selects "CoinJudge" ({ cls := "CoinJudge", name := "push", desc := "(I)I" } : Jvm.MethodName) ({ cls := "CoinJudge", name := "push", desc := "(I)I" } : Jvm.MethodName)) ∈ lw_all := lw_g (lw_at lw_m8 118 rfl) rfl
theorem q1948 : (Jvm.Cond.code ({ cls := "CoinJudge", name := "push", desc := "(I)I" } : Jvm.MethodName) prog_1_method_42_code (3 : Nat) (Option.some Jvm.ClassFile.FieldType.int)) ∈ lw_all := lw_g (lw_at lw_m8 119 rfl) rfl
theorem q1949 : (Jvm.Cond.methodLink "CoinJudge" (574 : Nat) ({ cls := "CoinJudge", name := "inputAt", desc := "(I)LCoinJudge$DraftInput;" } : Jvm.MethodName)) ∈ lw_all := lw_g (lw_at lw_m8 120 rfl) rfl
theorem q1950 : (Jvm.Cond.privateMethod ({ cls := "CoinJudge", name := "inputAt", desc := "(I)LCoinJudge$DraftInput;" } : Jvm.MethodName)) ∈ lw_tbl := lw_at lw_m8 121 rfl
theorem q1951 : (Jvm.Cond.instanceMethod ({ cls := "CoinJudge", name := "inputAt", desc := "(I)LCoinJudge$DraftInput;" } : Jvm.MethodName)) ∈ lw_all := lw_g (lw_at lw_m8 122 rfl) rfl
theorem q1952 : (Jvm.Cond.code ({ cls := "CoinJudge", name := "inputAt", desc := "(I)LCoinJudge$DraftInput;" } : Jvm.MethodName) prog_1_method_41_code (2 : Nat) (Option.some (Jvm.ClassFile.FieldType.object "CoinJudge$DraftInput"))) ∈ lw_all := lw_g (lw_at lw_m8 123 rfl) rfl
theorem q1953 : (Jvm.Cond.methodLink "CoinJudge" (582 : Nat) ({ cls := "CoinJudge$Sink", name := "push", desc := "([BII)V" } : Jvm.MethodName)) ∈ lw_all := lw_g (lw_at lw_m8 124 rfl) rfl
theorem q1954 : (Jvm.Cond.instanceMethod ({ cls := "CoinJudge$Sink", name := "push", desc := "([BII)V" } : Jvm.MethodName)) ∈ lw_all := lw_g (lw_at lw_m8 125 rfl) rfl
theorem q1955 : (Jvm.Cond.selects "CoinJudge$Sink" ({ cls := "CoinJudge$Sink", name := "push", desc := "([BII)V" } : Jvm.MethodName) ({ cls := "CoinJudge$Sink", name := "push", desc := "([BII)V" } : Jvm.MethodName)) ∈ lw_all := lw_g (lw_at lw_m8 126 rfl) rfl
theorem q1956 : (Jvm.Cond.code ({ cls := "CoinJudge$Sink", name := "push", desc := "([BII)V" } : Jvm.MethodName) prog_22_method_6_code (4 : Nat) (Option.none : Option Jvm.ClassFile.FieldType)) ∈ lw_all := lw_g (lw_at lw_m8 127 rfl) rfl
theorem q1957 : (Jvm.Cond.constantLong "CoinJudge$Sink" (26 : Nat) (76 : Int64)) ∈ lw_all := lw_g (lw_at lw_m8 128 rfl) rfl
theorem q1958 : (Jvm.Cond.constantLong "CoinJudge$Sink" (28 : Nat) (77 : Int64)) ∈ lw_all := lw_g (lw_at lw_m8 129 rfl) rfl
theorem q1959 : (Jvm.Cond.methodLink "CoinJudge$Sink" (30 : Nat) ({ cls := "CoinJudge$Sink", name := "copy", desc := "([BII)V" } : Jvm.MethodName)) ∈ lw_all := lw_g (lw_at lw_m8 130 rfl) rfl
theorem q1960 : (Jvm.Cond.methodLink "CoinJudgeLaw" (128 : Nat) ({ cls := "CoinJudgeLaw", name := "sign", desc := "(LCoinJudge;III[J)I" } : Jvm.MethodName)) ∈ lw_all := lw_g (lw_at lw_m8 131 rfl) rfl
theorem q1961 : (Jvm.Cond.static ({ cls := "CoinJudgeLaw", name := "sign", desc := "(LCoinJudge;III[J)I" } : Jvm.MethodName)) ∈ lw_all := lw_g (lw_at lw_m8 132 rfl) rfl
theorem q1962 : (Jvm.Cond.codeWith ({ cls := "CoinJudgeLaw", name := "sign", desc := "(LCoinJudge;III[J)I" } : Jvm.MethodName) method_13_code (6 : Nat) (Option.some Jvm.ClassFile.FieldType.int) [((0 : Nat), (12 : Nat), (15 : Nat), (19 : Nat)), ((0 : Nat), (12 : Nat), (19 : Nat), (43 : Nat)), ((0 : Nat), (12 : Nat), (23 : Nat), (13 : Nat))]) ∈ lw_all := lw_g (lw_at lw_m8 133 rfl) rfl
theorem q1963 : (Jvm.Cond.methodLink "CoinJudgeLaw" (52 : Nat) ({ cls := "CoinJudge", name := "sign", desc := "(III)I" } : Jvm.MethodName)) ∈ lw_all := lw_g (lw_at lw_m8 134 rfl) rfl
theorem q1964 : (Jvm.Cond.instanceMethod ({ cls := "CoinJudge", name := "sign", desc := "(III)I" } : Jvm.MethodName)) ∈ lw_all := lw_g (lw_at lw_m8 135 rfl) rfl
theorem q1965 : (Jvm.Cond.selects "CoinJudge" ({ cls := "CoinJudge", name := "sign", desc := "(III)I" } : Jvm.MethodName) ({ cls := "CoinJudge", name := "sign", desc := "(III)I" } : Jvm.MethodName)) ∈ lw_all := lw_g (lw_at lw_m8 136 rfl) rfl
theorem q1966 : (Jvm.Cond.code ({ cls := "CoinJudge", name := "sign", desc := "(III)I" } : Jvm.MethodName) prog_1_method_43_code (12 : Nat) (Option.some Jvm.ClassFile.FieldType.int)) ∈ lw_all := lw_g (lw_at lw_m8 137 rfl) rfl
theorem q1967 : (Jvm.Cond.methodLink "CoinJudge" (585 : Nat) ({ cls := "CoinJudge$Signing", name := "make", desc := "(I[BII)V" } : Jvm.MethodName)) ∈ lw_all := lw_g (lw_at lw_m8 138 rfl) rfl
theorem q1968 : (Jvm.Cond.methodLink "CoinJudge" (589 : Nat) ({ cls := "CoinJudge$Signing", name := "digest", desc := "()[B" } : Jvm.MethodName)) ∈ lw_all := lw_g (lw_at lw_m8 139 rfl) rfl
theorem q1969 : (Jvm.Cond.instanceMethod ({ cls := "CoinJudge$Signing", name := "digest", desc := "()[B" } : Jvm.MethodName)) ∈ lw_all := lw_g (lw_at lw_m8 140 rfl) rfl
theorem q1970 : (Jvm.Cond.selects "CoinJudge$Signing" ({ cls := "CoinJudge$Signing", name := "digest", desc := "()[B" } : Jvm.MethodName) ({ cls := "CoinJudge$Signing", name := "digest", desc := "()[B" } : Jvm.MethodName)) ∈ lw_all := lw_g (lw_at lw_m8 141 rfl) rfl
theorem q1971 : (Jvm.Cond.code ({ cls := "CoinJudge$Signing", name := "digest", desc := "()[B" } : Jvm.MethodName) prog_21_method_3_code (1 : Nat) (Option.some (Jvm.ClassFile.FieldType.array Jvm.ClassFile.FieldType.byte))) ∈ lw_all := lw_g (lw_at lw_m8 142 rfl) rfl
theorem q1972 : (Jvm.Cond.methodLink "CoinJudge" (593 : Nat) ({ cls := "CoinJudge$Big", name := "write", desc := "([BI)V" } : Jvm.MethodName)) ∈ lw_all := lw_g (lw_at lw_m8 143 rfl) rfl
theorem q1973 : (Jvm.Cond.methodLink "CoinJudge" (595 : Nat) ({ cls := "CoinJudge$Big", name := "read", desc := "([BII)LCoinJudge$Big;" } : Jvm.MethodName)) ∈ lw_all := lw_g (lw_at lw_m8 144 rfl) rfl
theorem q1974 : (Jvm.Cond.methodLink "CoinJudge" (598 : Nat) ({ cls := "CoinJudge$Curve", name := "scalars", desc := "()LCoinJudge$Ring;" } : Jvm.MethodName)) ∈ lw_all := lw_g (lw_at lw_m8 145 rfl) rfl
theorem q1975 : (Jvm.Cond.instanceMethod ({ cls := "CoinJudge$Curve", name := "scalars", desc := "()LCoinJudge$Ring;" } : Jvm.MethodName)) ∈ lw_all := lw_g (lw_at lw_m8 146 rfl) rfl
theorem q1976 : (Jvm.Cond.selects "CoinJudge$Curve" ({ cls := "CoinJudge$Curve", name := "scalars", desc := "()LCoinJudge$Ring;" } : Jvm.MethodName) ({ cls := "CoinJudge$Curve", name := "scalars", desc := "()LCoinJudge$Ring;" } : Jvm.MethodName)) ∈ lw_all := lw_g (lw_at lw_m8 147 rfl) rfl
theorem q1977 : (Jvm.Cond.code ({ cls := "CoinJudge$Curve", name := "scalars", desc := "()LCoinJudge$Ring;" } : Jvm.MethodName) prog_7_method_2_code (1 : Nat) (Option.some (Jvm.ClassFile.FieldType.object "CoinJudge$Ring"))) ∈ lw_all := lw_g (lw_at lw_m8 148 rfl) rfl
theorem q1978 : (Jvm.Cond.methodLink "CoinJudge" (602 : Nat) ({ cls := "CoinJudge$Ring", name := "reduce", desc := "(LCoinJudge$Big;)V" } : Jvm.MethodName)) ∈ lw_all := lw_g (lw_at lw_m8 149 rfl) rfl
theorem q1979 : (Jvm.Cond.methodLink "CoinJudge" (608 : Nat) ({ cls := "CoinJudge$Curve", name := "sign", desc := "(LCoinJudge$Big;LCoinJudge$Big;[B[B)I" } : Jvm.MethodName)) ∈ lw_all := lw_g (lw_at lw_m8 150 rfl) rfl
theorem q1980 : (Jvm.Cond.instanceMethod ({ cls := "CoinJudge$Curve", name := "sign", desc := "(LCoinJudge$Big;LCoinJudge$Big;[B[B)I" } : Jvm.MethodName)) ∈ lw_all := lw_g (lw_at lw_m8 151 rfl) rfl
theorem q1981 : (Jvm.Cond.selects "CoinJudge$Curve" ({ cls := "CoinJudge$Curve", name := "sign", desc := "(LCoinJudge$Big;LCoinJudge$Big;[B[B)I" } : Jvm.MethodName) ({ cls := "CoinJudge$Curve", name := "sign", desc := "(LCoinJudge$Big;LCoinJudge$Big;[B[B)I" } : Jvm.MethodName)) ∈ lw_all := lw_g (lw_at lw_m8 152 rfl) rfl
theorem q1982 : (Jvm.Cond.code ({ cls := "CoinJudge$Curve", name := "sign", desc := "(LCoinJudge$Big;LCoinJudge$Big;[B[B)I" } : Jvm.MethodName) prog_7_method_14_code (6 : Nat) (Option.some Jvm.ClassFile.FieldType.int)) ∈ lw_all := lw_g (lw_at lw_m8 153 rfl) rfl
theorem q1983 : (Jvm.Cond.methodLink "CoinJudge$Curve" (195 : Nat) ({ cls := "CoinJudge$Big", name := "copy", desc := "(LCoinJudge$Big;)LCoinJudge$Big;" } : Jvm.MethodName)) ∈ lw_all := lw_g (lw_at lw_m8 154 rfl) rfl
theorem q1984 : (Jvm.Cond.methodLink "CoinJudge$Curve" (198 : Nat) ({ cls := "CoinJudge$Curve", name := "der", desc := "(LCoinJudge$Big;[BI)I" } : Jvm.MethodName)) ∈ lw_all := lw_g (lw_at lw_m8 155 rfl) rfl
theorem q1985 : (Jvm.Cond.static ({ cls := "CoinJudge$Curve", name := "der", desc := "(LCoinJudge$Big;[BI)I" } : Jvm.MethodName)) ∈ lw_all := lw_g (lw_at lw_m8 156 rfl) rfl
theorem q1986 : (Jvm.Cond.code ({ cls := "CoinJudge$Curve", name := "der", desc := "(LCoinJudge$Big;[BI)I" } : Jvm.MethodName) prog_7_method_13_code (6 : Nat) (Option.some Jvm.ClassFile.FieldType.int)) ∈ lw_all := lw_g (lw_at lw_m8 157 rfl) rfl
theorem q1987 : (Jvm.Cond.methodLink "CoinJudgeLaw" (132 : Nat) ({ cls := "CoinJudgeLaw", name := "seal", desc := "(LCoinJudge;I[J)I" } : Jvm.MethodName)) ∈ lw_all := lw_g (lw_at lw_m8 158 rfl) rfl
theorem q1988 : (Jvm.Cond.static ({ cls := "CoinJudgeLaw", name := "seal", desc := "(LCoinJudge;I[J)I" } : Jvm.MethodName)) ∈ lw_all := lw_g (lw_at lw_m8 159 rfl) rfl
theorem q1989 : (Jvm.Cond.codeWith ({ cls := "CoinJudgeLaw", name := "seal", desc := "(LCoinJudge;I[J)I" } : Jvm.MethodName) method_14_code (4 : Nat) (Option.some Jvm.ClassFile.FieldType.int) [((0 : Nat), (9 : Nat), (12 : Nat), (19 : Nat)), ((0 : Nat), (9 : Nat), (15 : Nat), (13 : Nat))]) ∈ lw_all := lw_g (lw_at lw_m8 160 rfl) rfl
theorem q1990 : (Jvm.Cond.methodLink "CoinJudgeLaw" (56 : Nat) ({ cls := "CoinJudge", name := "seal", desc := "(I)I" } : Jvm.MethodName)) ∈ lw_all := lw_g (lw_at lw_m8 161 rfl) rfl
theorem q1991 : (Jvm.Cond.instanceMethod ({ cls := "CoinJudge", name := "seal", desc := "(I)I" } : Jvm.MethodName)) ∈ lw_all := lw_g (lw_at lw_m8 162 rfl) rfl
theorem q1992 : (Jvm.Cond.selects "CoinJudge" ({ cls := "CoinJudge", name := "seal", desc := "(I)I" } : Jvm.MethodName) ({ cls := "CoinJudge", name := "seal", desc := "(I)I" } : Jvm.MethodName)) ∈ lw_all := lw_g (lw_at lw_m8 163 rfl) rfl
theorem q1993 : (Jvm.Cond.code ({ cls := "CoinJudge", name := "seal", desc := "(I)I" } : Jvm.MethodName) prog_1_method_44_code (2 : Nat) (Option.some Jvm.ClassFile.FieldType.int)) ∈ lw_all := lw_g (lw_at lw_m8 164 rfl) rfl
theorem q1994 : (Jvm.Cond.methodLink "CoinJudgeLaw" (135 : Nat) ({ cls := "CoinJudgeLaw", name := "judge", desc := "(LCoinJudge;[J)I" } : Jvm.MethodName)) ∈ lw_all := lw_g (lw_at lw_m8 165 rfl) rfl
theorem q1995 : (Jvm.Cond.static ({ cls := "CoinJudgeLaw", name := "judge", desc := "(LCoinJudge;[J)I" } : Jvm.MethodName)) ∈ lw_all := lw_g (lw_at lw_m8 166 rfl) rfl
theorem q1996 : (Jvm.Cond.codeWith ({ cls := "CoinJudgeLaw", name := "judge", desc := "(LCoinJudge;[J)I" } : Jvm.MethodName) method_15_code (3 : Nat) (Option.some Jvm.ClassFile.FieldType.int) [((0 : Nat), (8 : Nat), (11 : Nat), (63 : Nat)), ((0 : Nat), (8 : Nat), (14 : Nat), (13 : Nat))]) ∈ lw_all := lw_g (lw_at lw_m8 167 rfl) rfl
theorem q1997 : (Jvm.Cond.classLink "CoinJudgeLaw" (63 : Nat) "java/lang/UnsupportedOperationException") ∈ lw_all := lw_g (lw_at lw_m8 168 rfl) rfl
theorem q1998 : (Jvm.Cond.methodLink "CoinJudgeLaw" (59 : Nat) ({ cls := "CoinJudge", name := "judge", desc := "()I" } : Jvm.MethodName)) ∈ lw_all := lw_g (lw_at lw_m8 169 rfl) rfl
theorem q1999 : (Jvm.Cond.instanceMethod ({ cls := "CoinJudge", name := "judge", desc := "()I" } : Jvm.MethodName)) ∈ lw_all := lw_g (lw_at lw_m8 170 rfl) rfl
theorem q2000 : (Jvm.Cond.selects "CoinJudge" ({ cls := "CoinJudge", name := "judge", desc := "()I" } : Jvm.MethodName) ({ cls := "CoinJudge", name := "judge", desc := "()I" } : Jvm.MethodName)) ∈ lw_all := lw_g (lw_at lw_m8 171 rfl) rfl
theorem q2001 : (Jvm.Cond.codeWith ({ cls := "CoinJudge", name := "judge", desc := "()I" } : Jvm.MethodName) prog_1_method_20_code (3 : Nat) (Option.some Jvm.ClassFile.FieldType.int) [((10 : Nat), (15 : Nat), (16 : Nat), (254 : Nat)), ((10 : Nat), (15 : Nat), (25 : Nat), (351 : Nat))]) ∈ lw_all := lw_g (lw_at lw_m8 172 rfl) rfl
theorem q2002 : (Jvm.Cond.methodLink "CoinJudge" (389 : Nat) ({ cls := "CoinJudge", name := "judged", desc := "(I)I" } : Jvm.MethodName)) ∈ lw_all := lw_g (lw_at lw_m8 173 rfl) rfl
theorem q2003 : (Jvm.Cond.privateMethod ({ cls := "CoinJudge", name := "judged", desc := "(I)I" } : Jvm.MethodName)) ∈ lw_tbl := lw_at lw_m8 174 rfl
theorem q2004 : (Jvm.Cond.instanceMethod ({ cls := "CoinJudge", name := "judged", desc := "(I)I" } : Jvm.MethodName)) ∈ lw_all := lw_g (lw_at lw_m8 175 rfl) rfl
theorem q2005 : (Jvm.Cond.code ({ cls := "CoinJudge", name := "judged", desc := "(I)I" } : Jvm.MethodName) prog_1_method_21_code (8 : Nat) (Option.some Jvm.ClassFile.FieldType.int)) ∈ lw_all := lw_g (lw_at lw_m8 176 rfl) rfl
theorem q2006 : (Jvm.Cond.methodLink "CoinJudge" (401 : Nat) ({ cls := "CoinJudge", name := "known", desc := "([BI)LCoinJudge$Block;" } : Jvm.MethodName)) ∈ lw_all := lw_g (lw_at lw_m8 177 rfl) rfl
theorem q2007 : (Jvm.Cond.privateMethod ({ cls := "CoinJudge", name := "known", desc := "([BI)LCoinJudge$Block;" } : Jvm.MethodName)) ∈ lw_tbl := lw_at lw_m8 178 rfl
theorem q2008 : (Jvm.Cond.instanceMethod ({ cls := "CoinJudge", name := "known", desc := "([BI)LCoinJudge$Block;" } : Jvm.MethodName)) ∈ lw_all := lw_g (lw_at lw_m8 179 rfl) rfl
theorem q2009 : (Jvm.Cond.code ({ cls := "CoinJudge", name := "known", desc := "([BI)LCoinJudge$Block;" } : Jvm.MethodName) prog_1_method_11_code (6 : Nat) (Option.some (Jvm.ClassFile.FieldType.object "CoinJudge$Block"))) ∈ lw_all := lw_g (lw_at lw_m8 180 rfl) rfl
theorem q2010 : (Jvm.Cond.methodLink "CoinJudge" (404 : Nat) ({ cls := "CoinJudge", name := "proved", desc := "(LCoinJudge$Block;)Z" } : Jvm.MethodName)) ∈ lw_all := lw_g (lw_at lw_m8 181 rfl) rfl
theorem q2011 : (Jvm.Cond.privateMethod ({ cls := "CoinJudge", name := "proved", desc := "(LCoinJudge$Block;)Z" } : Jvm.MethodName)) ∈ lw_tbl := lw_at lw_m8 182 rfl
theorem q2012 : (Jvm.Cond.instanceMethod ({ cls := "CoinJudge", name := "proved", desc := "(LCoinJudge$Block;)Z" } : Jvm.MethodName)) ∈ lw_all := lw_g (lw_at lw_m8 183 rfl) rfl
theorem q2013 : (Jvm.Cond.code ({ cls := "CoinJudge", name := "proved", desc := "(LCoinJudge$Block;)Z" } : Jvm.MethodName) prog_1_method_14_code (2 : Nat) (Option.some Jvm.ClassFile.FieldType.boolean)) ∈ lw_all := lw_g (lw_at lw_m8 184 rfl) rfl
theorem q2014 : (Jvm.Cond.methodLink "CoinJudge" (354 : Nat) ({ cls := "CoinJudge$Big", name := "isZero", desc := "()Z" } : Jvm.MethodName)) ∈ lw_all := lw_g (lw_at lw_m8 185 rfl) rfl
theorem q2015 : (Jvm.Cond.fieldLink "CoinJudge" (408 : Nat) "CoinJudge$State" "BAD" "LCoinJudge$State;") ∈ lw_all := lw_g (lw_at lw_m8 186 rfl) rfl
theorem q2016 : (Jvm.Cond.laysStatic "CoinJudge$State" "BAD" "LCoinJudge$State;") ∈ lw_tbl := lw_at lw_m8 187 rfl
theorem q2017 : (Jvm.Cond.methodLink "CoinJudge" (415 : Nat) ({ cls := "CoinJudge", name := "middle", desc := "(LCoinJudge$Block;)J" } : Jvm.MethodName)) ∈ lw_all := lw_g (lw_at lw_m8 188 rfl) rfl
theorem q2018 : (Jvm.Cond.static ({ cls := "CoinJudge", name := "middle", desc := "(LCoinJudge$Block;)J" } : Jvm.MethodName)) ∈ lw_all := lw_g (lw_at lw_m8 189 rfl) rfl
theorem q2019 : (Jvm.Cond.code ({ cls := "CoinJudge", name := "middle", desc := "(LCoinJudge$Block;)J" } : Jvm.MethodName) prog_1_method_7_code (5 : Nat) (Option.some Jvm.ClassFile.FieldType.long)) ∈ lw_all := lw_g (lw_at lw_m8 190 rfl) rfl
theorem q2020 : (Jvm.Cond.methodLink "CoinJudge" (419 : Nat) ({ cls := "CoinJudge", name := "check", desc := "(LCoinJudge$Block;)V" } : Jvm.MethodName)) ∈ lw_all := lw_g (lw_at lw_m8 191 rfl) rfl
theorem q2021 : (Jvm.Cond.privateMethod ({ cls := "CoinJudge", name := "check", desc := "(LCoinJudge$Block;)V" } : Jvm.MethodName)) ∈ lw_tbl := lw_at lw_m8 192 rfl
theorem q2022 : (Jvm.Cond.instanceMethod ({ cls := "CoinJudge", name := "check", desc := "(LCoinJudge$Block;)V" } : Jvm.MethodName)) ∈ lw_all := lw_g (lw_at lw_m8 193 rfl) rfl
theorem q2023 : (Jvm.Cond.code ({ cls := "CoinJudge", name := "check", desc := "(LCoinJudge$Block;)V" } : Jvm.MethodName) prog_1_method_17_code (11 : Nat) (Option.none : Option Jvm.ClassFile.FieldType)) ∈ lw_all := lw_g (lw_at lw_m8 194 rfl) rfl
theorem q2024 : (Jvm.Cond.methodLink "CoinJudge" (369 : Nat) ({ cls := "CoinJudge$Tx", name := "sameId", desc := "([BI)Z" } : Jvm.MethodName)) ∈ lw_all := lw_g (lw_at lw_m8 195 rfl) rfl
theorem q2025 : (Jvm.Cond.methodLink "CoinJudge" (373 : Nat) ({ cls := "CoinJudge", name := "isNone", desc := "([BLCoinJudge$Input;)Z" } : Jvm.MethodName)) ∈ lw_all := lw_g (lw_at lw_m8 196 rfl) rfl
theorem q2026 : (Jvm.Cond.static ({ cls := "CoinJudge", name := "isNone", desc := "([BLCoinJudge$Input;)Z" } : Jvm.MethodName)) ∈ lw_all := lw_g (lw_at lw_m8 197 rfl) rfl
theorem q2027 : (Jvm.Cond.code ({ cls := "CoinJudge", name := "isNone", desc := "([BLCoinJudge$Input;)Z" } : Jvm.MethodName) prog_1_method_16_code (3 : Nat) (Option.some Jvm.ClassFile.FieldType.boolean)) ∈ lw_all := lw_g (lw_at lw_m8 198 rfl) rfl
theorem q2028 : (Jvm.Cond.methodLink "CoinJudge" (377 : Nat) ({ cls := "CoinJudge", name := "whole", desc := "(LCoinJudge$Block;LCoinJudge$Tx;Z)V" } : Jvm.MethodName)) ∈ lw_all := lw_g (lw_at lw_m8 199 rfl) rfl
theorem q2029 : (Jvm.Cond.static ({ cls := "CoinJudge", name := "whole", desc := "(LCoinJudge$Block;LCoinJudge$Tx;Z)V" } : Jvm.MethodName)) ∈ lw_all := lw_g (lw_at lw_m8 200 rfl) rfl
theorem q2030 : (Jvm.Cond.code ({ cls := "CoinJudge", name := "whole", desc := "(LCoinJudge$Block;LCoinJudge$Tx;Z)V" } : Jvm.MethodName) prog_1_method_18_code (10 : Nat) (Option.none : Option Jvm.ClassFile.FieldType)) ∈ lw_all := lw_g (lw_at lw_m8 201 rfl) rfl
theorem q2031 : (Jvm.Cond.methodLink "CoinJudge" (381 : Nat) ({ cls := "CoinJudge$Machine", name := "asks", desc := "([BII)I" } : Jvm.MethodName)) ∈ lw_all := lw_g (lw_at lw_m8 202 rfl) rfl
theorem q2032 : (Jvm.Cond.static ({ cls := "CoinJudge$Machine", name := "asks", desc := "([BII)I" } : Jvm.MethodName)) ∈ lw_all := lw_g (lw_at lw_m8 203 rfl) rfl
theorem q2033 : (Jvm.Cond.code ({ cls := "CoinJudge$Machine", name := "asks", desc := "([BII)I" } : Jvm.MethodName) prog_15_method_12_code (7 : Nat) (Option.some Jvm.ClassFile.FieldType.int)) ∈ lw_all := lw_g (lw_at lw_m8 204 rfl) rfl
theorem q2034 : (Jvm.Cond.methodLink "CoinJudge" (422 : Nat) ({ cls := "CoinJudge", name := "last", desc := "(LCoinJudge$Tx;IJ)Z" } : Jvm.MethodName)) ∈ lw_all := lw_g (lw_at lw_m8 205 rfl) rfl
theorem q2035 : (Jvm.Cond.static ({ cls := "CoinJudge", name := "last", desc := "(LCoinJudge$Tx;IJ)Z" } : Jvm.MethodName)) ∈ lw_all := lw_g (lw_at lw_m8 206 rfl) rfl
theorem q2036 : (Jvm.Cond.code ({ cls := "CoinJudge", name := "last", desc := "(LCoinJudge$Tx;IJ)Z" } : Jvm.MethodName) prog_1_method_19_code (8 : Nat) (Option.some Jvm.ClassFile.FieldType.boolean)) ∈ lw_all := lw_g (lw_at lw_m8 207 rfl) rfl
theorem q2037 : (Jvm.Cond.constantLong "CoinJudge" (387 : Nat) (500000000 : Int64)) ∈ lw_all := lw_g (lw_at lw_m8 208 rfl) rfl
theorem q2038 : (Jvm.Cond.methodLink "CoinJudge" (429 : Nat) ({ cls := "CoinJudge", name := "climb", desc := "(LCoinJudge$Block;)V" } : Jvm.MethodName)) ∈ lw_all := lw_g (lw_at lw_m8 209 rfl) rfl
theorem q2039 : (Jvm.Cond.privateMethod ({ cls := "CoinJudge", name := "climb", desc := "(LCoinJudge$Block;)V" } : Jvm.MethodName)) ∈ lw_tbl := lw_at lw_m8 210 rfl
theorem q2040 : (Jvm.Cond.instanceMethod ({ cls := "CoinJudge", name := "climb", desc := "(LCoinJudge$Block;)V" } : Jvm.MethodName)) ∈ lw_all := lw_g (lw_at lw_m8 211 rfl) rfl
theorem q2041 : (Jvm.Cond.codeWith ({ cls := "CoinJudge", name := "climb", desc := "(LCoinJudge$Block;)V" } : Jvm.MethodName) prog_1_method_22_code (7 : Nat) (Option.none : Option Jvm.ClassFile.FieldType) [((45 : Nat), (79 : Nat), (82 : Nat), (351 : Nat))]) ∈ lw_all := lw_g (lw_at lw_m8 212 rfl) rfl
theorem q2042 : (Jvm.Cond.methodLink "CoinJudge" (432 : Nat) ({ cls := "CoinJudge", name := "step", desc := "(ZLCoinJudge$Block;)V" } : Jvm.MethodName)) ∈ lw_all := lw_g (lw_at lw_m8 213 rfl) rfl
theorem q2043 : (Jvm.Cond.privateMethod ({ cls := "CoinJudge", name := "step", desc := "(ZLCoinJudge$Block;)V" } : Jvm.MethodName)) ∈ lw_tbl := lw_at lw_m8 214 rfl
theorem q2044 : (Jvm.Cond.instanceMethod ({ cls := "CoinJudge", name := "step", desc := "(ZLCoinJudge$Block;)V" } : Jvm.MethodName)) ∈ lw_all := lw_g (lw_at lw_m8 215 rfl) rfl
theorem q2045 : (Jvm.Cond.code ({ cls := "CoinJudge", name := "step", desc := "(ZLCoinJudge$Block;)V" } : Jvm.MethodName) prog_1_method_23_code (3 : Nat) (Option.none : Option Jvm.ClassFile.FieldType)) ∈ lw_all := lw_g (lw_at lw_m8 216 rfl) rfl
theorem q2046 : (Jvm.Cond.fieldLink "CoinJudge" (440 : Nat) "CoinJudge$State" "STORED" "LCoinJudge$State;") ∈ lw_all := lw_g (lw_at lw_m8 217 rfl) rfl
theorem q2047 : (Jvm.Cond.methodLink "CoinJudge" (396 : Nat) ({ cls := "CoinJudge$Refused", name := "why", desc := "()I" } : Jvm.MethodName)) ∈ lw_all := lw_g (lw_at lw_m8 218 rfl) rfl
theorem q2048 : (Jvm.Cond.instanceMethod ({ cls := "CoinJudge$Refused", name := "why", desc := "()I" } : Jvm.MethodName)) ∈ lw_all := lw_g (lw_at lw_m8 219 rfl) rfl
theorem q2049 : (Jvm.Cond.selects "CoinJudge$Refused" ({ cls := "CoinJudge$Refused", name := "why", desc := "()I" } : Jvm.MethodName) ({ cls := "CoinJudge$Refused", name := "why", desc := "()I" } : Jvm.MethodName)) ∈ lw_all := lw_g (lw_at lw_m8 220 rfl) rfl
theorem q2050 : (Jvm.Cond.code ({ cls := "CoinJudge$Refused", name := "why", desc := "()I" } : Jvm.MethodName) prog_18_method_2_code (1 : Nat) (Option.some Jvm.ClassFile.FieldType.int)) ∈ lw_all := lw_g (lw_at lw_m8 221 rfl) rfl
theorem q2051 : (Jvm.Cond.classLink "CoinJudge" (398 : Nat) "java/lang/UnsupportedOperationException") ∈ lw_all := lw_g (lw_at lw_m8 222 rfl) rfl
theorem q2052 : (Jvm.Cond.instantiable "java/lang/UnsupportedOperationException" (6 : Nat)) ∈ lw_all := lw_g (lw_at lw_m8 223 rfl) rfl
theorem q2053 : (Jvm.Cond.castable "java/lang/UnsupportedOperationException" "java/lang/UnsupportedOperationException") ∈ lw_tbl := lw_at lw_m8 224 rfl
theorem q2054 : (Jvm.Cond.selects "java/lang/UnsupportedOperationException" ({ cls := "java/lang/Throwable", name := "fillInStackTrace", desc := "(I)Ljava/lang/Throwable;" } : Jvm.MethodName) ({ cls := "java/lang/Throwable", name := "fillInStackTrace", desc := "(I)Ljava/lang/Throwable;" } : Jvm.MethodName)) ∈ lw_all := lw_g (lw_at lw_m8 225 rfl) rfl
theorem q2055 : (Jvm.Cond.lays "java/lang/UnsupportedOperationException" "java/lang/Throwable" "cause" "Ljava/lang/Throwable;") ∈ lw_all := lw_g (lw_at lw_m8 226 rfl) rfl
theorem q2056 : (Jvm.Cond.lays "java/lang/UnsupportedOperationException" "java/lang/Throwable" "stackTrace" "[Ljava/lang/StackTraceElement;") ∈ lw_all := lw_g (lw_at lw_m8 227 rfl) rfl
theorem q2057 : (Jvm.Cond.lays "java/lang/UnsupportedOperationException" "java/lang/Throwable" "suppressedExceptions" "Ljava/util/List;") ∈ lw_all := lw_g (lw_at lw_m8 228 rfl) rfl
theorem q2058 : (Jvm.Cond.lays "java/lang/UnsupportedOperationException" "java/lang/Throwable" "detailMessage" "Ljava/lang/String;") ∈ lw_all := lw_g (lw_at lw_m8 229 rfl) rfl
theorem q2059 : (Jvm.Cond.lays "java/lang/UnsupportedOperationException" "java/lang/Throwable" "backtrace" "Ljava/lang/Object;") ∈ lw_all := lw_g (lw_at lw_m8 230 rfl) rfl
theorem q2060 : (Jvm.Cond.methodLink "CoinJudge" (400 : Nat) ({ cls := "java/lang/UnsupportedOperationException", name := "<init>", desc := "()V" } : Jvm.MethodName)) ∈ lw_all := lw_g (lw_at lw_m8 231 rfl) rfl
theorem q2061 : (Jvm.Cond.instanceMethod ({ cls := "java/lang/UnsupportedOperationException", name := "<init>", desc := "()V" } : Jvm.MethodName)) ∈ lw_all := lw_g (lw_at lw_m8 232 rfl) rfl
theorem q2062 : (Jvm.Cond.code ({ cls := "java/lang/UnsupportedOperationException", name := "<init>", desc := "()V" } : Jvm.MethodName) prog_49_method_1_code (1 : Nat) (Option.none : Option Jvm.ClassFile.FieldType)) ∈ lw_all := lw_g (lw_at lw_m8 233 rfl) rfl
theorem q2063 : (Jvm.Cond.methodLink "java/lang/UnsupportedOperationException" (1 : Nat) ({ cls := "java/lang/RuntimeException", name := "<init>", desc := "()V" } : Jvm.MethodName)) ∈ lw_all := lw_g (lw_at lw_m8 234 rfl) rfl
theorem q2064 : (Jvm.Cond.lays "java/lang/UnsupportedOperationException" "java/lang/Throwable" "depth" "I") ∈ lw_all := lw_g (lw_at lw_m8 235 rfl) rfl
theorem q2065 : (Jvm.Cond.superclass "java/lang/UnsupportedOperationException" "java/lang/RuntimeException") ∈ lw_all := lw_g (lw_at lw_m8 236 rfl) rfl
theorem q2066 : (Jvm.Cond.methodLink "CoinJudgeLaw" (139 : Nat) ({ cls := "CoinJudgeLaw", name := "tell", desc := "(LCoinJudge;I[J)I" } : Jvm.MethodName)) ∈ lw_all := lw_g (lw_at lw_m8 237 rfl) rfl
theorem q2067 : (Jvm.Cond.static ({ cls := "CoinJudgeLaw", name := "tell", desc := "(LCoinJudge;I[J)I" } : Jvm.MethodName)) ∈ lw_all := lw_g (lw_at lw_m8 238 rfl) rfl
theorem q2068 : (Jvm.Cond.codeWith ({ cls := "CoinJudgeLaw", name := "tell", desc := "(LCoinJudge;I[J)I" } : Jvm.MethodName) method_16_code (4 : Nat) (Option.some Jvm.ClassFile.FieldType.int) [((0 : Nat), (9 : Nat), (12 : Nat), (19 : Nat))]) ∈ lw_all := lw_g (lw_at lw_m8 239 rfl) rfl
theorem q2069 : (Jvm.Cond.methodLink "CoinJudgeLaw" (65 : Nat) ({ cls := "CoinJudge", name := "tell", desc := "(I)I" } : Jvm.MethodName)) ∈ lw_all := lw_g (lw_at lw_m9 0 rfl) rfl
theorem q2070 : (Jvm.Cond.instanceMethod ({ cls := "CoinJudge", name := "tell", desc := "(I)I" } : Jvm.MethodName)) ∈ lw_all := lw_g (lw_at lw_m9 1 rfl) rfl
theorem q2071 : (Jvm.Cond.selects "CoinJudge" ({ cls := "CoinJudge", name := "tell", desc := "(I)I" } : Jvm.MethodName) ({ cls := "CoinJudge", name := "tell", desc := "(I)I" } : Jvm.MethodName)) ∈ lw_all := lw_g (lw_at lw_m9 2 rfl) rfl
theorem q2072 : (Jvm.Cond.code ({ cls := "CoinJudge", name := "tell", desc := "(I)I" } : Jvm.MethodName) prog_1_method_45_code (2 : Nat) (Option.some Jvm.ClassFile.FieldType.int)) ∈ lw_all := lw_g (lw_at lw_m9 3 rfl) rfl
theorem q2073 : (Jvm.Cond.methodLink "CoinJudgeLaw" (142 : Nat) ({ cls := "CoinJudgeLaw", name := "block", desc := "(LCoinJudge;II[J)I" } : Jvm.MethodName)) ∈ lw_all := lw_g (lw_at lw_m9 4 rfl) rfl
theorem q2074 : (Jvm.Cond.static ({ cls := "CoinJudgeLaw", name := "block", desc := "(LCoinJudge;II[J)I" } : Jvm.MethodName)) ∈ lw_all := lw_g (lw_at lw_m9 5 rfl) rfl
theorem q2075 : (Jvm.Cond.codeWith ({ cls := "CoinJudgeLaw", name := "block", desc := "(LCoinJudge;II[J)I" } : Jvm.MethodName) method_17_code (5 : Nat) (Option.some Jvm.ClassFile.FieldType.int) [((0 : Nat), (9 : Nat), (12 : Nat), (19 : Nat))]) ∈ lw_all := lw_g (lw_at lw_m9 6 rfl) rfl
theorem q2076 : (Jvm.Cond.methodLink "CoinJudgeLaw" (68 : Nat) ({ cls := "CoinJudge", name := "block", desc := "(II)J" } : Jvm.MethodName)) ∈ lw_all := lw_g (lw_at lw_m9 7 rfl) rfl
theorem q2077 : (Jvm.Cond.instanceMethod ({ cls := "CoinJudge", name := "block", desc := "(II)J" } : Jvm.MethodName)) ∈ lw_all := lw_g (lw_at lw_m9 8 rfl) rfl
theorem q2078 : (Jvm.Cond.selects "CoinJudge" ({ cls := "CoinJudge", name := "block", desc := "(II)J" } : Jvm.MethodName) ({ cls := "CoinJudge", name := "block", desc := "(II)J" } : Jvm.MethodName)) ∈ lw_all := lw_g (lw_at lw_m9 9 rfl) rfl
theorem q2079 : (Jvm.Cond.code ({ cls := "CoinJudge", name := "block", desc := "(II)J" } : Jvm.MethodName) prog_1_method_46_code (4 : Nat) (Option.some Jvm.ClassFile.FieldType.long)) ∈ lw_all := lw_g (lw_at lw_m9 10 rfl) rfl
theorem q2080 : (Jvm.Cond.constantLong "CoinJudge" (612 : Nat) (-1 : Int64)) ∈ lw_all := lw_g (lw_at lw_m9 11 rfl) rfl
theorem q2081 : (Jvm.Cond.methodLink "CoinJudge" (614 : Nat) ({ cls := "CoinJudge$State", name := "ordinal", desc := "()I" } : Jvm.MethodName)) ∈ lw_all := lw_g (lw_at lw_m9 12 rfl) rfl
theorem q2082 : (Jvm.Cond.sameMethod "CoinJudge$State" "java/lang/Enum" "ordinal" "()I") ∈ lw_all := lw_g (lw_at lw_m9 13 rfl) rfl
theorem q2083 : (Jvm.Cond.declares ({ cls := "java/lang/Enum", name := "ordinal", desc := "()I" } : Jvm.MethodName)) ∈ lw_tbl := lw_at lw_m9 14 rfl
theorem q2084 : (Jvm.Cond.selects "CoinJudge$State" ({ cls := "CoinJudge$State", name := "ordinal", desc := "()I" } : Jvm.MethodName) ({ cls := "java/lang/Enum", name := "ordinal", desc := "()I" } : Jvm.MethodName)) ∈ lw_all := lw_g (lw_at lw_m9 15 rfl) rfl
theorem q2085 : (Jvm.Cond.instanceMethod ({ cls := "java/lang/Enum", name := "ordinal", desc := "()I" } : Jvm.MethodName)) ∈ lw_all := lw_g (lw_at lw_m9 16 rfl) rfl
theorem q2086 : (Jvm.Cond.code ({ cls := "java/lang/Enum", name := "ordinal", desc := "()I" } : Jvm.MethodName) prog_35_method_2_code (1 : Nat) (Option.some Jvm.ClassFile.FieldType.int)) ∈ lw_all := lw_g (lw_at lw_m9 17 rfl) rfl
theorem q2087 : (Jvm.Cond.methodLink "CoinJudgeLaw" (145 : Nat) ({ cls := "CoinJudgeLaw", name := "coin", desc := "(LCoinJudge;III[J)I" } : Jvm.MethodName)) ∈ lw_all := lw_g (lw_at lw_m9 18 rfl) rfl
theorem q2088 : (Jvm.Cond.static ({ cls := "CoinJudgeLaw", name := "coin", desc := "(LCoinJudge;III[J)I" } : Jvm.MethodName)) ∈ lw_all := lw_g (lw_at lw_m9 19 rfl) rfl
theorem q2089 : (Jvm.Cond.codeWith ({ cls := "CoinJudgeLaw", name := "coin", desc := "(LCoinJudge;III[J)I" } : Jvm.MethodName) method_18_code (6 : Nat) (Option.some Jvm.ClassFile.FieldType.int) [((0 : Nat), (11 : Nat), (14 : Nat), (19 : Nat))]) ∈ lw_all := lw_g (lw_at lw_m9 20 rfl) rfl
theorem q2090 : (Jvm.Cond.methodLink "CoinJudgeLaw" (72 : Nat) ({ cls := "CoinJudge", name := "coin", desc := "(III)J" } : Jvm.MethodName)) ∈ lw_all := lw_g (lw_at lw_m9 21 rfl) rfl
theorem q2091 : (Jvm.Cond.instanceMethod ({ cls := "CoinJudge", name := "coin", desc := "(III)J" } : Jvm.MethodName)) ∈ lw_all := lw_g (lw_at lw_m9 22 rfl) rfl
theorem q2092 : (Jvm.Cond.selects "CoinJudge" ({ cls := "CoinJudge", name := "coin", desc := "(III)J" } : Jvm.MethodName) ({ cls := "CoinJudge", name := "coin", desc := "(III)J" } : Jvm.MethodName)) ∈ lw_all := lw_g (lw_at lw_m9 23 rfl) rfl
theorem q2093 : (Jvm.Cond.code ({ cls := "CoinJudge", name := "coin", desc := "(III)J" } : Jvm.MethodName) prog_1_method_47_code (5 : Nat) (Option.some Jvm.ClassFile.FieldType.long)) ∈ lw_all := lw_g (lw_at lw_m9 24 rfl) rfl
theorem q2094 : (Jvm.Cond.methodLink "CoinJudgeLaw" (153 : Nat) ({ cls := "CoinJudgeLaw", name := "word", desc := "(LCoinJudge;I[J)I" } : Jvm.MethodName)) ∈ lw_all := lw_g (lw_at lw_m9 25 rfl) rfl
theorem q2095 : (Jvm.Cond.static ({ cls := "CoinJudgeLaw", name := "word", desc := "(LCoinJudge;I[J)I" } : Jvm.MethodName)) ∈ lw_all := lw_g (lw_at lw_m9 26 rfl) rfl
theorem q2096 : (Jvm.Cond.codeWith ({ cls := "CoinJudgeLaw", name := "word", desc := "(LCoinJudge;I[J)I" } : Jvm.MethodName) method_19_code (4 : Nat) (Option.some Jvm.ClassFile.FieldType.int) [((0 : Nat), (8 : Nat), (11 : Nat), (13 : Nat))]) ∈ lw_all := lw_g (lw_at lw_m9 27 rfl) rfl
theorem q2097 : (Jvm.Cond.methodLink "CoinJudgeLaw" (76 : Nat) ({ cls := "CoinJudge", name := "word", desc := "(I)J" } : Jvm.MethodName)) ∈ lw_all := lw_g (lw_at lw_m9 28 rfl) rfl
theorem q2098 : (Jvm.Cond.instanceMethod ({ cls := "CoinJudge", name := "word", desc := "(I)J" } : Jvm.MethodName)) ∈ lw_all := lw_g (lw_at lw_m9 29 rfl) rfl
theorem q2099 : (Jvm.Cond.selects "CoinJudge" ({ cls := "CoinJudge", name := "word", desc := "(I)J" } : Jvm.MethodName) ({ cls := "CoinJudge", name := "word", desc := "(I)J" } : Jvm.MethodName)) ∈ lw_all := lw_g (lw_at lw_m9 30 rfl) rfl
theorem q2100 : (Jvm.Cond.code ({ cls := "CoinJudge", name := "word", desc := "(I)J" } : Jvm.MethodName) prog_1_method_49_code (5 : Nat) (Option.some Jvm.ClassFile.FieldType.long)) ∈ lw_all := lw_g (lw_at lw_m9 31 rfl) rfl
theorem q2101 : (Jvm.Cond.classLink "CoinJudgeLaw" (81 : Nat) "CoinJudgeModel") ∈ lw_all := lw_g (lw_at lw_m9 32 rfl) rfl
theorem q2102 : (Jvm.Cond.instantiable "CoinJudgeModel" (119 : Nat)) ∈ lw_all := lw_g (lw_at lw_m9 33 rfl) rfl
theorem q2103 : (Jvm.Cond.methodLink "CoinJudgeLaw" (83 : Nat) ({ cls := "CoinJudgeModel", name := "<init>", desc := "()V" } : Jvm.MethodName)) ∈ lw_all := lw_g (lw_at lw_m9 34 rfl) rfl
theorem q2104 : (Jvm.Cond.instanceMethod ({ cls := "CoinJudgeModel", name := "<init>", desc := "()V" } : Jvm.MethodName)) ∈ lw_all := lw_g (lw_at lw_m9 35 rfl) rfl
theorem q2105 : (Jvm.Cond.code ({ cls := "CoinJudgeModel", name := "<init>", desc := "()V" } : Jvm.MethodName) prog_27_method_95_code (6 : Nat) (Option.none : Option Jvm.ClassFile.FieldType)) ∈ lw_all := lw_g (lw_at lw_m9 36 rfl) rfl
theorem q2106 : (Jvm.Cond.methodLink "CoinJudgeModel" (773 : Nat) ({ cls := "java/lang/Object", name := "<init>", desc := "()V" } : Jvm.MethodName)) ∈ lw_all := lw_g (lw_at lw_m9 37 rfl) rfl
theorem q2107 : (Jvm.Cond.constant "CoinJudgeModel" (776 : Nat) (1518500249 : Int32)) ∈ lw_all := lw_g (lw_at lw_m9 38 rfl) rfl
theorem q2108 : (Jvm.Cond.constant "CoinJudgeModel" (777 : Nat) (1859775393 : Int32)) ∈ lw_all := lw_g (lw_at lw_m9 39 rfl) rfl
theorem q2109 : (Jvm.Cond.constant "CoinJudgeModel" (778 : Nat) (-1894007588 : Int32)) ∈ lw_all := lw_g (lw_at lw_m9 40 rfl) rfl
theorem q2110 : (Jvm.Cond.constant "CoinJudgeModel" (779 : Nat) (-1454113458 : Int32)) ∈ lw_all := lw_g (lw_at lw_m9 41 rfl) rfl
theorem q2111 : (Jvm.Cond.constant "CoinJudgeModel" (780 : Nat) (1352829926 : Int32)) ∈ lw_all := lw_g (lw_at lw_m9 42 rfl) rfl
theorem q2112 : (Jvm.Cond.constant "CoinJudgeModel" (781 : Nat) (1548603684 : Int32)) ∈ lw_all := lw_g (lw_at lw_m9 43 rfl) rfl
theorem q2113 : (Jvm.Cond.constant "CoinJudgeModel" (782 : Nat) (1836072691 : Int32)) ∈ lw_all := lw_g (lw_at lw_m9 44 rfl) rfl
theorem q2114 : (Jvm.Cond.constant "CoinJudgeModel" (783 : Nat) (2053994217 : Int32)) ∈ lw_all := lw_g (lw_at lw_m9 45 rfl) rfl
theorem q2115 : (Jvm.Cond.classLink "CoinJudgeModel" (91 : Nat) "CoinJudgeModel$Point") ∈ lw_all := lw_g (lw_at lw_m9 46 rfl) rfl
theorem q2116 : (Jvm.Cond.instantiable "CoinJudgeModel$Point" (3 : Nat)) ∈ lw_all := lw_g (lw_at lw_m9 47 rfl) rfl
theorem q2117 : (Jvm.Cond.methodLinkNest "CoinJudgeModel" (784 : Nat) ({ cls := "CoinJudgeModel$Point", name := "<init>", desc := "()V" } : Jvm.MethodName) "CoinJudgeModel") ∈ lw_tbl := lw_at lw_m9 48 rfl
theorem q2118 : (Jvm.Cond.instanceMethod ({ cls := "CoinJudgeModel$Point", name := "<init>", desc := "()V" } : Jvm.MethodName)) ∈ lw_all := lw_g (lw_at lw_m9 49 rfl) rfl
theorem q2119 : (Jvm.Cond.code ({ cls := "CoinJudgeModel$Point", name := "<init>", desc := "()V" } : Jvm.MethodName) prog_30_method_1_code (1 : Nat) (Option.none : Option Jvm.ClassFile.FieldType)) ∈ lw_all := lw_g (lw_at lw_m9 50 rfl) rfl
theorem q2120 : (Jvm.Cond.methodLink "CoinJudgeModel$Point" (1 : Nat) ({ cls := "java/lang/Object", name := "<init>", desc := "()V" } : Jvm.MethodName)) ∈ lw_all := lw_g (lw_at lw_m9 51 rfl) rfl
theorem q2121 : (Jvm.Cond.fieldLink "CoinJudgeModel$Point" (7 : Nat) "CoinJudgeModel$Point" "x" "[I") ∈ lw_all := lw_g (lw_at lw_m9 52 rfl) rfl
theorem q2122 : (Jvm.Cond.fieldLinkNest "CoinJudgeModel" (115 : Nat) "CoinJudgeModel$Point" "x" "[I" "CoinJudgeModel") ∈ lw_tbl := lw_at lw_m9 53 rfl
theorem q2123 : (Jvm.Cond.fieldLink "CoinJudgeModel$Point" (13 : Nat) "CoinJudgeModel$Point" "y" "[I") ∈ lw_all := lw_g (lw_at lw_m9 54 rfl) rfl
theorem q2124 : (Jvm.Cond.fieldLinkNest "CoinJudgeModel" (105 : Nat) "CoinJudgeModel$Point" "y" "[I" "CoinJudgeModel") ∈ lw_tbl := lw_at lw_m9 55 rfl
theorem q2125 : (Jvm.Cond.fieldLink "CoinJudgeModel$Point" (16 : Nat) "CoinJudgeModel$Point" "z" "[I") ∈ lw_all := lw_g (lw_at lw_m9 56 rfl) rfl
theorem q2126 : (Jvm.Cond.fieldLinkNest "CoinJudgeModel" (90 : Nat) "CoinJudgeModel$Point" "z" "[I" "CoinJudgeModel") ∈ lw_tbl := lw_at lw_m9 57 rfl
theorem q2127 : (Jvm.Cond.laysFinal "CoinJudgeModel$Point" "CoinJudgeModel$Point" "x" "[I") ∈ lw_all := lw_g (lw_at lw_m9 58 rfl) rfl
theorem q2128 : (Jvm.Cond.soleField "CoinJudgeModel$Point" "x") ∈ lw_all := lw_g (lw_at lw_m9 59 rfl) rfl
theorem q2129 : (Jvm.Cond.laysFinal "CoinJudgeModel$Point" "CoinJudgeModel$Point" "y" "[I") ∈ lw_all := lw_g (lw_at lw_m9 60 rfl) rfl
theorem q2130 : (Jvm.Cond.soleField "CoinJudgeModel$Point" "y") ∈ lw_all := lw_g (lw_at lw_m9 61 rfl) rfl
theorem q2131 : (Jvm.Cond.laysFinal "CoinJudgeModel$Point" "CoinJudgeModel$Point" "z" "[I") ∈ lw_all := lw_g (lw_at lw_m9 62 rfl) rfl
theorem q2132 : (Jvm.Cond.soleField "CoinJudgeModel$Point" "z") ∈ lw_all := lw_g (lw_at lw_m9 63 rfl) rfl
theorem q2133 : (Jvm.Cond.superclass "CoinJudgeModel$Point" "java/lang/Object") ∈ lw_all := lw_g (lw_at lw_m9 64 rfl) rfl
theorem q2134 : (Jvm.Cond.classLink "CoinJudgeModel" (352 : Nat) "CoinJudgeModel$Block") ∈ lw_all := lw_g (lw_at lw_m9 65 rfl) rfl
theorem q2135 : (Jvm.Cond.arrayOver (Jvm.ClassFile.FieldType.object "CoinJudgeModel$Block")) ∈ lw_tbl := lw_at lw_m9 66 rfl
theorem q2136 : (Jvm.Cond.classLink "CoinJudgeModel" (276 : Nat) "CoinJudgeModel$Parsed") ∈ lw_all := lw_g (lw_at lw_m9 67 rfl) rfl
theorem q2137 : (Jvm.Cond.instantiable "CoinJudgeModel$Parsed" (9 : Nat)) ∈ lw_all := lw_g (lw_at lw_m9 68 rfl) rfl
theorem q2138 : (Jvm.Cond.methodLinkNest "CoinJudgeModel" (788 : Nat) ({ cls := "CoinJudgeModel$Parsed", name := "<init>", desc := "()V" } : Jvm.MethodName) "CoinJudgeModel") ∈ lw_tbl := lw_at lw_m9 69 rfl
theorem q2139 : (Jvm.Cond.instanceMethod ({ cls := "CoinJudgeModel$Parsed", name := "<init>", desc := "()V" } : Jvm.MethodName)) ∈ lw_all := lw_g (lw_at lw_m9 70 rfl) rfl
theorem q2140 : (Jvm.Cond.code ({ cls := "CoinJudgeModel$Parsed", name := "<init>", desc := "()V" } : Jvm.MethodName) prog_29_method_1_code (1 : Nat) (Option.none : Option Jvm.ClassFile.FieldType)) ∈ lw_all := lw_g (lw_at lw_m9 71 rfl) rfl
theorem q2141 : (Jvm.Cond.methodLink "CoinJudgeModel$Parsed" (1 : Nat) ({ cls := "java/lang/Object", name := "<init>", desc := "()V" } : Jvm.MethodName)) ∈ lw_all := lw_g (lw_at lw_m9 72 rfl) rfl
theorem q2142 : (Jvm.Cond.fieldLinkNest "CoinJudgeModel" (275 : Nat) "CoinJudgeModel$Parsed" "bytes" "[B" "CoinJudgeModel") ∈ lw_tbl := lw_at lw_m9 73 rfl
theorem q2143 : (Jvm.Cond.fieldLinkNest "CoinJudgeModel" (288 : Nat) "CoinJudgeModel$Parsed" "count" "I" "CoinJudgeModel") ∈ lw_tbl := lw_at lw_m9 74 rfl
theorem q2144 : (Jvm.Cond.fieldLink "CoinJudgeModel$Parsed" (7 : Nat) "CoinJudgeModel$Parsed" "starts" "[I") ∈ lw_all := lw_g (lw_at lw_m9 75 rfl) rfl
theorem q2145 : (Jvm.Cond.fieldLinkNest "CoinJudgeModel" (290 : Nat) "CoinJudgeModel$Parsed" "starts" "[I" "CoinJudgeModel") ∈ lw_tbl := lw_at lw_m9 76 rfl
theorem q2146 : (Jvm.Cond.fieldLink "CoinJudgeModel$Parsed" (13 : Nat) "CoinJudgeModel$Parsed" "ends" "[I") ∈ lw_all := lw_g (lw_at lw_m9 77 rfl) rfl
theorem q2147 : (Jvm.Cond.fieldLinkNest "CoinJudgeModel" (313 : Nat) "CoinJudgeModel$Parsed" "ends" "[I" "CoinJudgeModel") ∈ lw_tbl := lw_at lw_m9 78 rfl
theorem q2148 : (Jvm.Cond.fieldLink "CoinJudgeModel$Parsed" (16 : Nat) "CoinJudgeModel$Parsed" "ins" "[I") ∈ lw_all := lw_g (lw_at lw_m9 79 rfl) rfl
theorem q2149 : (Jvm.Cond.fieldLinkNest "CoinJudgeModel" (297 : Nat) "CoinJudgeModel$Parsed" "ins" "[I" "CoinJudgeModel") ∈ lw_tbl := lw_at lw_m9 80 rfl
theorem q2150 : (Jvm.Cond.fieldLink "CoinJudgeModel$Parsed" (19 : Nat) "CoinJudgeModel$Parsed" "outs" "[I") ∈ lw_all := lw_g (lw_at lw_m9 81 rfl) rfl
theorem q2151 : (Jvm.Cond.fieldLinkNest "CoinJudgeModel" (307 : Nat) "CoinJudgeModel$Parsed" "outs" "[I" "CoinJudgeModel") ∈ lw_tbl := lw_at lw_m9 82 rfl
theorem q2152 : (Jvm.Cond.fieldLink "CoinJudgeModel$Parsed" (22 : Nat) "CoinJudgeModel$Parsed" "firstIn" "[I") ∈ lw_all := lw_g (lw_at lw_m9 83 rfl) rfl
theorem q2153 : (Jvm.Cond.fieldLinkNest "CoinJudgeModel" (300 : Nat) "CoinJudgeModel$Parsed" "firstIn" "[I" "CoinJudgeModel") ∈ lw_tbl := lw_at lw_m9 84 rfl
theorem q2154 : (Jvm.Cond.fieldLink "CoinJudgeModel$Parsed" (25 : Nat) "CoinJudgeModel$Parsed" "firstOut" "[I") ∈ lw_all := lw_g (lw_at lw_m9 85 rfl) rfl
theorem q2155 : (Jvm.Cond.fieldLinkNest "CoinJudgeModel" (310 : Nat) "CoinJudgeModel$Parsed" "firstOut" "[I" "CoinJudgeModel") ∈ lw_tbl := lw_at lw_m9 86 rfl
theorem q2156 : (Jvm.Cond.fieldLink "CoinJudgeModel$Parsed" (28 : Nat) "CoinJudgeModel$Parsed" "ids" "[B") ∈ lw_all := lw_g (lw_at lw_m9 87 rfl) rfl
theorem q2157 : (Jvm.Cond.fieldLinkNest "CoinJudgeModel" (316 : Nat) "CoinJudgeModel$Parsed" "ids" "[B" "CoinJudgeModel") ∈ lw_tbl := lw_at lw_m9 88 rfl
theorem q2158 : (Jvm.Cond.lays "CoinJudgeModel$Parsed" "CoinJudgeModel$Parsed" "bytes" "[B") ∈ lw_all := lw_g (lw_at lw_m9 89 rfl) rfl
theorem q2159 : (Jvm.Cond.soleField "CoinJudgeModel$Parsed" "bytes") ∈ lw_all := lw_g (lw_at lw_m9 90 rfl) rfl
theorem q2160 : (Jvm.Cond.lays "CoinJudgeModel$Parsed" "CoinJudgeModel$Parsed" "count" "I") ∈ lw_all := lw_g (lw_at lw_m9 91 rfl) rfl
theorem q2161 : (Jvm.Cond.soleField "CoinJudgeModel$Parsed" "count") ∈ lw_all := lw_g (lw_at lw_m9 92 rfl) rfl
theorem q2162 : (Jvm.Cond.laysFinal "CoinJudgeModel$Parsed" "CoinJudgeModel$Parsed" "starts" "[I") ∈ lw_all := lw_g (lw_at lw_m9 93 rfl) rfl
theorem q2163 : (Jvm.Cond.soleField "CoinJudgeModel$Parsed" "starts") ∈ lw_all := lw_g (lw_at lw_m9 94 rfl) rfl
theorem q2164 : (Jvm.Cond.laysFinal "CoinJudgeModel$Parsed" "CoinJudgeModel$Parsed" "ends" "[I") ∈ lw_all := lw_g (lw_at lw_m9 95 rfl) rfl
theorem q2165 : (Jvm.Cond.soleField "CoinJudgeModel$Parsed" "ends") ∈ lw_all := lw_g (lw_at lw_m9 96 rfl) rfl
theorem q2166 : (Jvm.Cond.laysFinal "CoinJudgeModel$Parsed" "CoinJudgeModel$Parsed" "ins" "[I") ∈ lw_all := lw_g (lw_at lw_m9 97 rfl) rfl
theorem q2167 : (Jvm.Cond.soleField "CoinJudgeModel$Parsed" "ins") ∈ lw_all := lw_g (lw_at lw_m9 98 rfl) rfl
theorem q2168 : (Jvm.Cond.laysFinal "CoinJudgeModel$Parsed" "CoinJudgeModel$Parsed" "outs" "[I") ∈ lw_all := lw_g (lw_at lw_m9 99 rfl) rfl
theorem q2169 : (Jvm.Cond.soleField "CoinJudgeModel$Parsed" "outs") ∈ lw_all := lw_g (lw_at lw_m9 100 rfl) rfl
theorem q2170 : (Jvm.Cond.laysFinal "CoinJudgeModel$Parsed" "CoinJudgeModel$Parsed" "firstIn" "[I") ∈ lw_all := lw_g (lw_at lw_m9 101 rfl) rfl
theorem q2171 : (Jvm.Cond.soleField "CoinJudgeModel$Parsed" "firstIn") ∈ lw_all := lw_g (lw_at lw_m9 102 rfl) rfl
theorem q2172 : (Jvm.Cond.laysFinal "CoinJudgeModel$Parsed" "CoinJudgeModel$Parsed" "firstOut" "[I") ∈ lw_all := lw_g (lw_at lw_m9 103 rfl) rfl
theorem q2173 : (Jvm.Cond.soleField "CoinJudgeModel$Parsed" "firstOut") ∈ lw_all := lw_g (lw_at lw_m9 104 rfl) rfl
theorem q2174 : (Jvm.Cond.laysFinal "CoinJudgeModel$Parsed" "CoinJudgeModel$Parsed" "ids" "[B") ∈ lw_all := lw_g (lw_at lw_m9 105 rfl) rfl
theorem q2175 : (Jvm.Cond.soleField "CoinJudgeModel$Parsed" "ids") ∈ lw_all := lw_g (lw_at lw_m9 106 rfl) rfl
theorem q2176 : (Jvm.Cond.superclass "CoinJudgeModel$Parsed" "java/lang/Object") ∈ lw_all := lw_g (lw_at lw_m9 107 rfl) rfl
theorem q2177 : (Jvm.Cond.classLink "CoinJudgeModel" (798 : Nat) "[B") ∈ lw_all := lw_g (lw_at lw_m9 108 rfl) rfl
theorem q2178 : (Jvm.Cond.arrayOver (Jvm.ClassFile.FieldType.array Jvm.ClassFile.FieldType.byte)) ∈ lw_tbl := lw_at lw_m9 109 rfl
theorem q2179 : (Jvm.Cond.classLink "CoinJudgeModel" (799 : Nat) "[[B") ∈ lw_all := lw_g (lw_at lw_m9 110 rfl) rfl
theorem q2180 : (Jvm.Cond.constant "CoinJudgeModel" (800 : Nat) (131072 : Int32)) ∈ lw_all := lw_g (lw_at lw_m9 111 rfl) rfl
theorem q2181 : (Jvm.Cond.constant "CoinJudgeModel" (822 : Nat) (-801750719 : Int32)) ∈ lw_all := lw_g (lw_at lw_m9 112 rfl) rfl
theorem q2182 : (Jvm.Cond.constant "CoinJudgeModel" (823 : Nat) (-1076732276 : Int32)) ∈ lw_all := lw_g (lw_at lw_m9 113 rfl) rfl
theorem q2183 : (Jvm.Cond.constant "CoinJudgeModel" (824 : Nat) (-1354194885 : Int32)) ∈ lw_all := lw_g (lw_at lw_m9 114 rfl) rfl
theorem q2184 : (Jvm.Cond.constant "CoinJudgeModel" (825 : Nat) (-1162945306 : Int32)) ∈ lw_all := lw_g (lw_at lw_m9 115 rfl) rfl
theorem q2185 : (Jvm.Cond.classLink "CoinJudgeModel" (96 : Nat) "CoinJudgeModel$Ring") ∈ lw_all := lw_g (lw_at lw_m9 116 rfl) rfl
theorem q2186 : (Jvm.Cond.instantiable "CoinJudgeModel$Ring" (8 : Nat)) ∈ lw_all := lw_g (lw_at lw_m9 117 rfl) rfl
theorem q2187 : (Jvm.Cond.methodLink "CoinJudgeModel" (826 : Nat) ({ cls := "CoinJudgeModel$Ring", name := "<init>", desc := "([I)V" } : Jvm.MethodName)) ∈ lw_all := lw_g (lw_at lw_m9 118 rfl) rfl
theorem q2188 : (Jvm.Cond.instanceMethod ({ cls := "CoinJudgeModel$Ring", name := "<init>", desc := "([I)V" } : Jvm.MethodName)) ∈ lw_all := lw_g (lw_at lw_m9 119 rfl) rfl
theorem q2189 : (Jvm.Cond.code ({ cls := "CoinJudgeModel$Ring", name := "<init>", desc := "([I)V" } : Jvm.MethodName) prog_31_method_1_code (4 : Nat) (Option.none : Option Jvm.ClassFile.FieldType)) ∈ lw_all := lw_g (lw_at lw_m9 120 rfl) rfl
theorem q2190 : (Jvm.Cond.methodLink "CoinJudgeModel$Ring" (3 : Nat) ({ cls := "java/lang/Object", name := "<init>", desc := "()V" } : Jvm.MethodName)) ∈ lw_all := lw_g (lw_at lw_m9 121 rfl) rfl
theorem q2191 : (Jvm.Cond.methodLink "CoinJudgeModel$Ring" (37 : Nat) ({ cls := "CoinJudgeModel$Ring", name := "add", desc := "([I[I[I)V" } : Jvm.MethodName)) ∈ lw_all := lw_g (lw_at lw_m9 122 rfl) rfl
theorem q2192 : (Jvm.Cond.instanceMethod ({ cls := "CoinJudgeModel$Ring", name := "add", desc := "([I[I[I)V" } : Jvm.MethodName)) ∈ lw_all := lw_g (lw_at lw_m9 123 rfl) rfl
theorem q2193 : (Jvm.Cond.selects "CoinJudgeModel$Ring" ({ cls := "CoinJudgeModel$Ring", name := "add", desc := "([I[I[I)V" } : Jvm.MethodName) ({ cls := "CoinJudgeModel$Ring", name := "add", desc := "([I[I[I)V" } : Jvm.MethodName)) ∈ lw_all := lw_g (lw_at lw_m9 124 rfl) rfl
theorem q2194 : (Jvm.Cond.code ({ cls := "CoinJudgeModel$Ring", name := "add", desc := "([I[I[I)V" } : Jvm.MethodName) prog_31_method_8_code (4 : Nat) (Option.none : Option Jvm.ClassFile.FieldType)) ∈ lw_all := lw_g (lw_at lw_m9 125 rfl) rfl
theorem q2195 : (Jvm.Cond.methodLink "CoinJudgeModel$Ring" (51 : Nat) ({ cls := "CoinJudgeModel$Ring", name := "plus", desc := "([I[I[I)J" } : Jvm.MethodName)) ∈ lw_all := lw_g (lw_at lw_m9 126 rfl) rfl
theorem q2196 : (Jvm.Cond.static ({ cls := "CoinJudgeModel$Ring", name := "plus", desc := "([I[I[I)J" } : Jvm.MethodName)) ∈ lw_all := lw_g (lw_at lw_m9 127 rfl) rfl
theorem q2197 : (Jvm.Cond.code ({ cls := "CoinJudgeModel$Ring", name := "plus", desc := "([I[I[I)J" } : Jvm.MethodName) prog_31_method_6_code (6 : Nat) (Option.some Jvm.ClassFile.FieldType.long)) ∈ lw_all := lw_g (lw_at lw_m9 128 rfl) rfl
theorem q2198 : (Jvm.Cond.constantLong "CoinJudgeModel$Ring" (49 : Nat) (4294967295 : Int64)) ∈ lw_all := lw_g (lw_at lw_m9 129 rfl) rfl
theorem q2199 : (Jvm.Cond.methodLink "CoinJudgeModel$Ring" (45 : Nat) ({ cls := "CoinJudgeModel$Ring", name := "compare", desc := "([I[I)I" } : Jvm.MethodName)) ∈ lw_all := lw_g (lw_at lw_m9 130 rfl) rfl
theorem q2200 : (Jvm.Cond.static ({ cls := "CoinJudgeModel$Ring", name := "compare", desc := "([I[I)I" } : Jvm.MethodName)) ∈ lw_all := lw_g (lw_at lw_m9 131 rfl) rfl
theorem q2201 : (Jvm.Cond.code ({ cls := "CoinJudgeModel$Ring", name := "compare", desc := "([I[I)I" } : Jvm.MethodName) prog_31_method_5_code (3 : Nat) (Option.some Jvm.ClassFile.FieldType.int)) ∈ lw_all := lw_g (lw_at lw_m9 132 rfl) rfl
theorem q2202 : (Jvm.Cond.methodLink "CoinJudgeModel$Ring" (55 : Nat) ({ cls := "CoinJudgeModel$Ring", name := "less", desc := "([I[I[I)J" } : Jvm.MethodName)) ∈ lw_all := lw_g (lw_at lw_m9 133 rfl) rfl
theorem q2203 : (Jvm.Cond.static ({ cls := "CoinJudgeModel$Ring", name := "less", desc := "([I[I[I)J" } : Jvm.MethodName)) ∈ lw_all := lw_g (lw_at lw_m9 134 rfl) rfl
theorem q2204 : (Jvm.Cond.code ({ cls := "CoinJudgeModel$Ring", name := "less", desc := "([I[I[I)J" } : Jvm.MethodName) prog_31_method_7_code (8 : Nat) (Option.some Jvm.ClassFile.FieldType.long)) ∈ lw_all := lw_g (lw_at lw_m9 135 rfl) rfl
theorem q2205 : (Jvm.Cond.methodLink "CoinJudgeModel$Ring" (41 : Nat) ({ cls := "CoinJudgeModel$Ring", name := "copy", desc := "([I[I)V" } : Jvm.MethodName)) ∈ lw_all := lw_g (lw_at lw_m9 136 rfl) rfl
theorem q2206 : (Jvm.Cond.static ({ cls := "CoinJudgeModel$Ring", name := "copy", desc := "([I[I)V" } : Jvm.MethodName)) ∈ lw_all := lw_g (lw_at lw_m9 137 rfl) rfl
theorem q2207 : (Jvm.Cond.code ({ cls := "CoinJudgeModel$Ring", name := "copy", desc := "([I[I)V" } : Jvm.MethodName) prog_31_method_2_code (3 : Nat) (Option.none : Option Jvm.ClassFile.FieldType)) ∈ lw_all := lw_g (lw_at lw_m9 138 rfl) rfl
theorem q2208 : (Jvm.Cond.fieldLink "CoinJudgeModel$Ring" (9 : Nat) "CoinJudgeModel$Ring" "modulus" "[I") ∈ lw_all := lw_g (lw_at lw_m9 139 rfl) rfl
theorem q2209 : (Jvm.Cond.fieldLinkNest "CoinJudgeModel" (162 : Nat) "CoinJudgeModel$Ring" "modulus" "[I" "CoinJudgeModel") ∈ lw_tbl := lw_at lw_m9 140 rfl
theorem q2210 : (Jvm.Cond.fieldLink "CoinJudgeModel$Ring" (33 : Nat) "CoinJudgeModel$Ring" "minus" "I") ∈ lw_all := lw_g (lw_at lw_m9 141 rfl) rfl
theorem q2211 : (Jvm.Cond.fieldLink "CoinJudgeModel$Ring" (15 : Nat) "CoinJudgeModel$Ring" "one" "[I") ∈ lw_all := lw_g (lw_at lw_m9 142 rfl) rfl
theorem q2212 : (Jvm.Cond.fieldLinkNest "CoinJudgeModel" (179 : Nat) "CoinJudgeModel$Ring" "one" "[I" "CoinJudgeModel") ∈ lw_tbl := lw_at lw_m9 143 rfl
theorem q2213 : (Jvm.Cond.fieldLink "CoinJudgeModel$Ring" (18 : Nat) "CoinJudgeModel$Ring" "twice" "[I") ∈ lw_all := lw_g (lw_at lw_m9 144 rfl) rfl
theorem q2214 : (Jvm.Cond.fieldLink "CoinJudgeModel$Ring" (21 : Nat) "CoinJudgeModel$Ring" "plain" "[I") ∈ lw_all := lw_g (lw_at lw_m9 145 rfl) rfl
theorem q2215 : (Jvm.Cond.fieldLink "CoinJudgeModel$Ring" (24 : Nat) "CoinJudgeModel$Ring" "row" "[I") ∈ lw_all := lw_g (lw_at lw_m9 146 rfl) rfl
theorem q2216 : (Jvm.Cond.fieldLink "CoinJudgeModel$Ring" (27 : Nat) "CoinJudgeModel$Ring" "base" "[I") ∈ lw_all := lw_g (lw_at lw_m9 147 rfl) rfl
theorem q2217 : (Jvm.Cond.fieldLink "CoinJudgeModel$Ring" (30 : Nat) "CoinJudgeModel$Ring" "other" "[I") ∈ lw_all := lw_g (lw_at lw_m9 148 rfl) rfl
theorem q2218 : (Jvm.Cond.laysFinal "CoinJudgeModel$Ring" "CoinJudgeModel$Ring" "modulus" "[I") ∈ lw_all := lw_g (lw_at lw_m9 149 rfl) rfl
theorem q2219 : (Jvm.Cond.soleField "CoinJudgeModel$Ring" "modulus") ∈ lw_all := lw_g (lw_at lw_m9 150 rfl) rfl
theorem q2220 : (Jvm.Cond.laysFinal "CoinJudgeModel$Ring" "CoinJudgeModel$Ring" "minus" "I") ∈ lw_all := lw_g (lw_at lw_m9 151 rfl) rfl
theorem q2221 : (Jvm.Cond.soleField "CoinJudgeModel$Ring" "minus") ∈ lw_all := lw_g (lw_at lw_m9 152 rfl) rfl
theorem q2222 : (Jvm.Cond.laysFinal "CoinJudgeModel$Ring" "CoinJudgeModel$Ring" "one" "[I") ∈ lw_all := lw_g (lw_at lw_m9 153 rfl) rfl
theorem q2223 : (Jvm.Cond.soleField "CoinJudgeModel$Ring" "one") ∈ lw_all := lw_g (lw_at lw_m9 154 rfl) rfl
theorem q2224 : (Jvm.Cond.laysFinal "CoinJudgeModel$Ring" "CoinJudgeModel$Ring" "twice" "[I") ∈ lw_all := lw_g (lw_at lw_m9 155 rfl) rfl
theorem q2225 : (Jvm.Cond.soleField "CoinJudgeModel$Ring" "twice") ∈ lw_all := lw_g (lw_at lw_m9 156 rfl) rfl
theorem q2226 : (Jvm.Cond.laysFinal "CoinJudgeModel$Ring" "CoinJudgeModel$Ring" "plain" "[I") ∈ lw_all := lw_g (lw_at lw_m9 157 rfl) rfl
theorem q2227 : (Jvm.Cond.soleField "CoinJudgeModel$Ring" "plain") ∈ lw_all := lw_g (lw_at lw_m9 158 rfl) rfl
theorem q2228 : (Jvm.Cond.laysFinal "CoinJudgeModel$Ring" "CoinJudgeModel$Ring" "row" "[I") ∈ lw_all := lw_g (lw_at lw_m9 159 rfl) rfl
theorem q2229 : (Jvm.Cond.soleField "CoinJudgeModel$Ring" "row") ∈ lw_all := lw_g (lw_at lw_m9 160 rfl) rfl
theorem q2230 : (Jvm.Cond.laysFinal "CoinJudgeModel$Ring" "CoinJudgeModel$Ring" "base" "[I") ∈ lw_all := lw_g (lw_at lw_m9 161 rfl) rfl
theorem q2231 : (Jvm.Cond.soleField "CoinJudgeModel$Ring" "base") ∈ lw_all := lw_g (lw_at lw_m9 162 rfl) rfl
theorem q2232 : (Jvm.Cond.laysFinal "CoinJudgeModel$Ring" "CoinJudgeModel$Ring" "other" "[I") ∈ lw_all := lw_g (lw_at lw_m9 163 rfl) rfl
theorem q2233 : (Jvm.Cond.soleField "CoinJudgeModel$Ring" "other") ∈ lw_all := lw_g (lw_at lw_m9 164 rfl) rfl
theorem q2234 : (Jvm.Cond.superclass "CoinJudgeModel$Ring" "java/lang/Object") ∈ lw_all := lw_g (lw_at lw_m9 165 rfl) rfl
theorem q2235 : (Jvm.Cond.methodLink "CoinJudgeModel" (829 : Nat) ({ cls := "CoinJudgeModel", name := "isPrime", desc := "(I)Z" } : Jvm.MethodName)) ∈ lw_all := lw_g (lw_at lw_m9 166 rfl) rfl
theorem q2236 : (Jvm.Cond.static ({ cls := "CoinJudgeModel", name := "isPrime", desc := "(I)Z" } : Jvm.MethodName)) ∈ lw_all := lw_g (lw_at lw_m9 167 rfl) rfl
theorem q2237 : (Jvm.Cond.code ({ cls := "CoinJudgeModel", name := "isPrime", desc := "(I)Z" } : Jvm.MethodName) prog_27_method_3_code (2 : Nat) (Option.some Jvm.ClassFile.FieldType.boolean)) ∈ lw_all := lw_g (lw_at lw_m9 168 rfl) rfl
theorem q2238 : (Jvm.Cond.methodLink "CoinJudgeModel" (832 : Nat) ({ cls := "CoinJudgeModel", name := "fraction", desc := "(IZ)I" } : Jvm.MethodName)) ∈ lw_all := lw_g (lw_at lw_m9 169 rfl) rfl
theorem q2239 : (Jvm.Cond.privateMethod ({ cls := "CoinJudgeModel", name := "fraction", desc := "(IZ)I" } : Jvm.MethodName)) ∈ lw_tbl := lw_at lw_m9 170 rfl
theorem q2240 : (Jvm.Cond.instanceMethod ({ cls := "CoinJudgeModel", name := "fraction", desc := "(IZ)I" } : Jvm.MethodName)) ∈ lw_all := lw_g (lw_at lw_m9 171 rfl) rfl
theorem q2241 : (Jvm.Cond.code ({ cls := "CoinJudgeModel", name := "fraction", desc := "(IZ)I" } : Jvm.MethodName) prog_27_method_5_code (10 : Nat) (Option.some Jvm.ClassFile.FieldType.int)) ∈ lw_all := lw_g (lw_at lw_m9 172 rfl) rfl
theorem q2242 : (Jvm.Cond.constantLong "CoinJudgeModel" (7 : Nat) (65535 : Int64)) ∈ lw_all := lw_g (lw_at lw_m9 173 rfl) rfl
theorem q2243 : (Jvm.Cond.methodLink "CoinJudgeModel" (12 : Nat) ({ cls := "CoinJudgeModel", name := "times", desc := "([JI[J)V" } : Jvm.MethodName)) ∈ lw_all := lw_g (lw_at lw_m9 174 rfl) rfl
theorem q2244 : (Jvm.Cond.privateMethod ({ cls := "CoinJudgeModel", name := "times", desc := "([JI[J)V" } : Jvm.MethodName)) ∈ lw_tbl := lw_at lw_m9 175 rfl
theorem q2245 : (Jvm.Cond.instanceMethod ({ cls := "CoinJudgeModel", name := "times", desc := "([JI[J)V" } : Jvm.MethodName)) ∈ lw_all := lw_g (lw_at lw_m9 176 rfl) rfl
theorem q2246 : (Jvm.Cond.code ({ cls := "CoinJudgeModel", name := "times", desc := "([JI[J)V" } : Jvm.MethodName) prog_27_method_4_code (6 : Nat) (Option.none : Option Jvm.ClassFile.FieldType)) ∈ lw_all := lw_g (lw_at lw_m9 177 rfl) rfl
theorem q2247 : (Jvm.Cond.methodLink "CoinJudgeModel" (173 : Nat) ({ cls := "CoinJudgeModel$Ring", name := "enter", desc := "([I[I)V" } : Jvm.MethodName)) ∈ lw_all := lw_g (lw_at lw_m9 178 rfl) rfl
theorem q2248 : (Jvm.Cond.instanceMethod ({ cls := "CoinJudgeModel$Ring", name := "enter", desc := "([I[I)V" } : Jvm.MethodName)) ∈ lw_all := lw_g (lw_at lw_m9 179 rfl) rfl
theorem q2249 : (Jvm.Cond.selects "CoinJudgeModel$Ring" ({ cls := "CoinJudgeModel$Ring", name := "enter", desc := "([I[I)V" } : Jvm.MethodName) ({ cls := "CoinJudgeModel$Ring", name := "enter", desc := "([I[I)V" } : Jvm.MethodName)) ∈ lw_all := lw_g (lw_at lw_m9 180 rfl) rfl
theorem q2250 : (Jvm.Cond.code ({ cls := "CoinJudgeModel$Ring", name := "enter", desc := "([I[I)V" } : Jvm.MethodName) prog_31_method_12_code (3 : Nat) (Option.none : Option Jvm.ClassFile.FieldType)) ∈ lw_all := lw_g (lw_at lw_m9 181 rfl) rfl
theorem q2251 : (Jvm.Cond.methodLink "CoinJudgeModel$Ring" (62 : Nat) ({ cls := "CoinJudgeModel$Ring", name := "multiply", desc := "([I[I[I)V" } : Jvm.MethodName)) ∈ lw_all := lw_g (lw_at lw_m9 182 rfl) rfl
theorem q2252 : (Jvm.Cond.instanceMethod ({ cls := "CoinJudgeModel$Ring", name := "multiply", desc := "([I[I[I)V" } : Jvm.MethodName)) ∈ lw_all := lw_g (lw_at lw_m9 183 rfl) rfl
theorem q2253 : (Jvm.Cond.selects "CoinJudgeModel$Ring" ({ cls := "CoinJudgeModel$Ring", name := "multiply", desc := "([I[I[I)V" } : Jvm.MethodName) ({ cls := "CoinJudgeModel$Ring", name := "multiply", desc := "([I[I[I)V" } : Jvm.MethodName)) ∈ lw_all := lw_g (lw_at lw_m9 184 rfl) rfl
theorem q2254 : (Jvm.Cond.code ({ cls := "CoinJudgeModel$Ring", name := "multiply", desc := "([I[I[I)V" } : Jvm.MethodName) prog_31_method_11_code (6 : Nat) (Option.none : Option Jvm.ClassFile.FieldType)) ∈ lw_all := lw_g (lw_at lw_m9 185 rfl) rfl
theorem q2255 : (Jvm.Cond.methodLink "CoinJudgeModel$Ring" (58 : Nat) ({ cls := "CoinJudgeModel$Ring", name := "put", desc := "(I[I)V" } : Jvm.MethodName)) ∈ lw_all := lw_g (lw_at lw_m9 186 rfl) rfl
theorem q2256 : (Jvm.Cond.privateMethod ({ cls := "CoinJudgeModel$Ring", name := "put", desc := "(I[I)V" } : Jvm.MethodName)) ∈ lw_tbl := lw_at lw_m9 187 rfl
theorem q2257 : (Jvm.Cond.instanceMethod ({ cls := "CoinJudgeModel$Ring", name := "put", desc := "(I[I)V" } : Jvm.MethodName)) ∈ lw_all := lw_g (lw_at lw_m9 188 rfl) rfl
theorem q2258 : (Jvm.Cond.code ({ cls := "CoinJudgeModel$Ring", name := "put", desc := "(I[I)V" } : Jvm.MethodName) prog_31_method_10_code (6 : Nat) (Option.none : Option Jvm.ClassFile.FieldType)) ∈ lw_all := lw_g (lw_at lw_m9 189 rfl) rfl
theorem q2259 : (Jvm.Cond.constant "CoinJudgeModel" (836 : Nat) (385357720 : Int32)) ∈ lw_all := lw_g (lw_at lw_m9 190 rfl) rfl
theorem q2260 : (Jvm.Cond.constant "CoinJudgeModel" (837 : Nat) (1509065051 : Int32)) ∈ lw_all := lw_g (lw_at lw_m9 191 rfl) rfl
theorem q2261 : (Jvm.Cond.constant "CoinJudgeModel" (838 : Nat) (768485593 : Int32)) ∈ lw_all := lw_g (lw_at lw_m9 192 rfl) rfl
theorem q2262 : (Jvm.Cond.constant "CoinJudgeModel" (839 : Nat) (43777243 : Int32)) ∈ lw_all := lw_g (lw_at lw_m9 193 rfl) rfl
theorem q2263 : (Jvm.Cond.constant "CoinJudgeModel" (840 : Nat) (-830010617 : Int32)) ∈ lw_all := lw_g (lw_at lw_m9 194 rfl) rfl
theorem q2264 : (Jvm.Cond.constant "CoinJudgeModel" (841 : Nat) (1436574357 : Int32)) ∈ lw_all := lw_g (lw_at lw_m9 195 rfl) rfl
theorem q2265 : (Jvm.Cond.constant "CoinJudgeModel" (842 : Nat) (-102974548 : Int32)) ∈ lw_all := lw_g (lw_at lw_m9 196 rfl) rfl
theorem q2266 : (Jvm.Cond.constant "CoinJudgeModel" (843 : Nat) (2042521214 : Int32)) ∈ lw_all := lw_g (lw_at lw_m9 197 rfl) rfl
theorem q2267 : (Jvm.Cond.constant "CoinJudgeModel" (844 : Nat) (-82783048 : Int32)) ∈ lw_all := lw_g (lw_at lw_m9 198 rfl) rfl
theorem q2268 : (Jvm.Cond.constant "CoinJudgeModel" (845 : Nat) (-1673015153 : Int32)) ∈ lw_all := lw_g (lw_at lw_m9 199 rfl) rfl
theorem q2269 : (Jvm.Cond.constant "CoinJudgeModel" (846 : Nat) (-1501211623 : Int32)) ∈ lw_all := lw_g (lw_at lw_m9 200 rfl) rfl
theorem q2270 : (Jvm.Cond.constant "CoinJudgeModel" (847 : Nat) (-48778168 : Int32)) ∈ lw_all := lw_g (lw_at lw_m9 201 rfl) rfl
theorem q2271 : (Jvm.Cond.constant "CoinJudgeModel" (848 : Nat) (235997352 : Int32)) ∈ lw_all := lw_g (lw_at lw_m9 202 rfl) rfl
theorem q2272 : (Jvm.Cond.constant "CoinJudgeModel" (849 : Nat) (1571093500 : Int32)) ∈ lw_all := lw_g (lw_at lw_m9 203 rfl) rfl
theorem q2273 : (Jvm.Cond.constant "CoinJudgeModel" (850 : Nat) (648266853 : Int32)) ∈ lw_all := lw_g (lw_at lw_m9 204 rfl) rfl
theorem q2274 : (Jvm.Cond.constant "CoinJudgeModel" (851 : Nat) (1211816567 : Int32)) ∈ lw_all := lw_g (lw_at lw_m9 205 rfl) rfl
theorem q2275 : (Jvm.Cond.methodLink "CoinJudgeModel" (182 : Nat) ({ cls := "CoinJudgeModel$Ring", name := "copy", desc := "([I[I)V" } : Jvm.MethodName)) ∈ lw_all := lw_g (lw_at lw_m9 206 rfl) rfl
theorem q2276 : (Jvm.Cond.constant "CoinJudgeModel" (852 : Nat) (545259519 : Int32)) ∈ lw_all := lw_g (lw_at lw_m9 207 rfl) rfl
theorem q2277 : (Jvm.Cond.methodLink "CoinJudgeModel" (376 : Nat) ({ cls := "CoinJudgeModel", name := "target", desc := "(I[I)Z" } : Jvm.MethodName)) ∈ lw_all := lw_g (lw_at lw_m9 208 rfl) rfl
theorem q2278 : (Jvm.Cond.static ({ cls := "CoinJudgeModel", name := "target", desc := "(I[I)Z" } : Jvm.MethodName)) ∈ lw_all := lw_g (lw_at lw_m9 209 rfl) rfl
theorem q2279 : (Jvm.Cond.code ({ cls := "CoinJudgeModel", name := "target", desc := "(I[I)Z" } : Jvm.MethodName) prog_27_method_32_code (8 : Nat) (Option.some Jvm.ClassFile.FieldType.boolean)) ∈ lw_all := lw_g (lw_at lw_m9 210 rfl) rfl
theorem q2280 : (Jvm.Cond.constant "CoinJudgeModel" (332 : Nat) (8388607 : Int32)) ∈ lw_all := lw_g (lw_at lw_m9 211 rfl) rfl
theorem q2281 : (Jvm.Cond.constant "CoinJudgeModel" (333 : Nat) (8388608 : Int32)) ∈ lw_all := lw_g (lw_at lw_m9 212 rfl) rfl
theorem q2282 : (Jvm.Cond.constantLong "CoinJudgeModel" (853 : Nat) (1000000 : Int64)) ∈ lw_all := lw_g (lw_at lw_m9 213 rfl) rfl
theorem q2283 : (Jvm.Cond.constantLong "CoinJudgeModel" (380 : Nat) (4294967295 : Int64)) ∈ lw_all := lw_g (lw_at lw_m9 214 rfl) rfl
theorem q2284 : (Jvm.Cond.methodLink "CoinJudgeModel" (868 : Nat) ({ cls := "CoinJudgeModel", name := "addInput", desc := "(IJ)V" } : Jvm.MethodName)) ∈ lw_all := lw_g (lw_at lw_m9 215 rfl) rfl
theorem q2285 : (Jvm.Cond.privateMethod ({ cls := "CoinJudgeModel", name := "addInput", desc := "(IJ)V" } : Jvm.MethodName)) ∈ lw_tbl := lw_at lw_m9 216 rfl
theorem q2286 : (Jvm.Cond.instanceMethod ({ cls := "CoinJudgeModel", name := "addInput", desc := "(IJ)V" } : Jvm.MethodName)) ∈ lw_all := lw_g (lw_at lw_m9 217 rfl) rfl
theorem q2287 : (Jvm.Cond.code ({ cls := "CoinJudgeModel", name := "addInput", desc := "(IJ)V" } : Jvm.MethodName) prog_27_method_108_code (6 : Nat) (Option.none : Option Jvm.ClassFile.FieldType)) ∈ lw_all := lw_g (lw_at lw_m9 218 rfl) rfl
theorem q2288 : (Jvm.Cond.constantLong "CoinJudgeModel" (485 : Nat) (5000000000 : Int64)) ∈ lw_all := lw_g (lw_at lw_m9 219 rfl) rfl
theorem q2289 : (Jvm.Cond.methodLink "CoinJudgeModel" (872 : Nat) ({ cls := "CoinJudgeModel", name := "addOutput", desc := "(J)V" } : Jvm.MethodName)) ∈ lw_all := lw_g (lw_at lw_m9 220 rfl) rfl
theorem q2290 : (Jvm.Cond.privateMethod ({ cls := "CoinJudgeModel", name := "addOutput", desc := "(J)V" } : Jvm.MethodName)) ∈ lw_tbl := lw_at lw_m9 221 rfl
theorem q2291 : (Jvm.Cond.instanceMethod ({ cls := "CoinJudgeModel", name := "addOutput", desc := "(J)V" } : Jvm.MethodName)) ∈ lw_all := lw_g (lw_at lw_m9 222 rfl) rfl
theorem q2292 : (Jvm.Cond.code ({ cls := "CoinJudgeModel", name := "addOutput", desc := "(J)V" } : Jvm.MethodName) prog_27_method_109_code (6 : Nat) (Option.none : Option Jvm.ClassFile.FieldType)) ∈ lw_all := lw_g (lw_at lw_m9 223 rfl) rfl
theorem q2293 : (Jvm.Cond.methodLink "CoinJudgeModel" (875 : Nat) ({ cls := "CoinJudgeModel", name := "assemble", desc := "(I)V" } : Jvm.MethodName)) ∈ lw_all := lw_g (lw_at lw_m9 224 rfl) rfl
theorem q2294 : (Jvm.Cond.privateMethod ({ cls := "CoinJudgeModel", name := "assemble", desc := "(I)V" } : Jvm.MethodName)) ∈ lw_tbl := lw_at lw_m9 225 rfl
theorem q2295 : (Jvm.Cond.instanceMethod ({ cls := "CoinJudgeModel", name := "assemble", desc := "(I)V" } : Jvm.MethodName)) ∈ lw_all := lw_g (lw_at lw_m9 226 rfl) rfl
theorem q2296 : (Jvm.Cond.code ({ cls := "CoinJudgeModel", name := "assemble", desc := "(I)V" } : Jvm.MethodName) prog_27_method_117_code (5 : Nat) (Option.none : Option Jvm.ClassFile.FieldType)) ∈ lw_all := lw_g (lw_at lw_m9 227 rfl) rfl
theorem q2297 : (Jvm.Cond.methodLink "CoinJudgeModel" (909 : Nat) ({ cls := "CoinJudgeModel", name := "draftId", desc := "(I)V" } : Jvm.MethodName)) ∈ lw_all := lw_g (lw_at lw_m9 228 rfl) rfl
theorem q2298 : (Jvm.Cond.privateMethod ({ cls := "CoinJudgeModel", name := "draftId", desc := "(I)V" } : Jvm.MethodName)) ∈ lw_tbl := lw_at lw_m9 229 rfl
theorem q2299 : (Jvm.Cond.instanceMethod ({ cls := "CoinJudgeModel", name := "draftId", desc := "(I)V" } : Jvm.MethodName)) ∈ lw_all := lw_g (lw_at lw_m9 230 rfl) rfl
theorem q2300 : (Jvm.Cond.code ({ cls := "CoinJudgeModel", name := "draftId", desc := "(I)V" } : Jvm.MethodName) prog_27_method_94_code (2 : Nat) (Option.none : Option Jvm.ClassFile.FieldType)) ∈ lw_all := lw_g (lw_at lw_m9 231 rfl) rfl
theorem q2301 : (Jvm.Cond.methodLink "CoinJudgeModel" (767 : Nat) ({ cls := "CoinJudgeModel", name := "makeTx", desc := "(I)V" } : Jvm.MethodName)) ∈ lw_all := lw_g (lw_at lw_m9 232 rfl) rfl
theorem q2302 : (Jvm.Cond.privateMethod ({ cls := "CoinJudgeModel", name := "makeTx", desc := "(I)V" } : Jvm.MethodName)) ∈ lw_tbl := lw_at lw_m9 233 rfl
theorem q2303 : (Jvm.Cond.instanceMethod ({ cls := "CoinJudgeModel", name := "makeTx", desc := "(I)V" } : Jvm.MethodName)) ∈ lw_all := lw_g (lw_at lw_m9 234 rfl) rfl
theorem q2304 : (Jvm.Cond.code ({ cls := "CoinJudgeModel", name := "makeTx", desc := "(I)V" } : Jvm.MethodName) prog_27_method_93_code (3 : Nat) (Option.none : Option Jvm.ClassFile.FieldType)) ∈ lw_all := lw_g (lw_at lw_m9 235 rfl) rfl
theorem q2305 : (Jvm.Cond.methodLink "CoinJudgeModel" (726 : Nat) ({ cls := "CoinJudgeModel", name := "make", desc := "(JI)V" } : Jvm.MethodName)) ∈ lw_all := lw_g (lw_at lw_m9 236 rfl) rfl
theorem q2306 : (Jvm.Cond.privateMethod ({ cls := "CoinJudgeModel", name := "make", desc := "(JI)V" } : Jvm.MethodName)) ∈ lw_tbl := lw_at lw_m9 237 rfl
theorem q2307 : (Jvm.Cond.instanceMethod ({ cls := "CoinJudgeModel", name := "make", desc := "(JI)V" } : Jvm.MethodName)) ∈ lw_all := lw_g (lw_at lw_m9 238 rfl) rfl
theorem q2308 : (Jvm.Cond.code ({ cls := "CoinJudgeModel", name := "make", desc := "(JI)V" } : Jvm.MethodName) prog_27_method_90_code (5 : Nat) (Option.none : Option Jvm.ClassFile.FieldType)) ∈ lw_all := lw_g (lw_at lw_m9 239 rfl) rfl
theorem q2309 : (Jvm.Cond.methodLink "CoinJudgeModel" (735 : Nat) ({ cls := "CoinJudgeModel", name := "makeCount", desc := "(I)V" } : Jvm.MethodName)) ∈ lw_all := lw_g (lw_at lw_m10 0 rfl) rfl
theorem q2310 : (Jvm.Cond.privateMethod ({ cls := "CoinJudgeModel", name := "makeCount", desc := "(I)V" } : Jvm.MethodName)) ∈ lw_tbl := lw_at lw_m10 1 rfl
theorem q2311 : (Jvm.Cond.instanceMethod ({ cls := "CoinJudgeModel", name := "makeCount", desc := "(I)V" } : Jvm.MethodName)) ∈ lw_all := lw_g (lw_at lw_m10 2 rfl) rfl
theorem q2312 : (Jvm.Cond.code ({ cls := "CoinJudgeModel", name := "makeCount", desc := "(I)V" } : Jvm.MethodName) prog_27_method_92_code (2 : Nat) (Option.none : Option Jvm.ClassFile.FieldType)) ∈ lw_all := lw_g (lw_at lw_m10 3 rfl) rfl
theorem q2313 : (Jvm.Cond.constantLong "CoinJudgeModel" (271 : Nat) (253 : Int64)) ∈ lw_all := lw_g (lw_at lw_m10 4 rfl) rfl
theorem q2314 : (Jvm.Cond.methodLink "CoinJudgeModel" (741 : Nat) ({ cls := "CoinJudgeModel", name := "make", desc := "([BII)V" } : Jvm.MethodName)) ∈ lw_all := lw_g (lw_at lw_m10 5 rfl) rfl
theorem q2315 : (Jvm.Cond.privateMethod ({ cls := "CoinJudgeModel", name := "make", desc := "([BII)V" } : Jvm.MethodName)) ∈ lw_tbl := lw_at lw_m10 6 rfl
theorem q2316 : (Jvm.Cond.instanceMethod ({ cls := "CoinJudgeModel", name := "make", desc := "([BII)V" } : Jvm.MethodName)) ∈ lw_all := lw_g (lw_at lw_m10 7 rfl) rfl
theorem q2317 : (Jvm.Cond.code ({ cls := "CoinJudgeModel", name := "make", desc := "([BII)V" } : Jvm.MethodName) prog_27_method_91_code (5 : Nat) (Option.none : Option Jvm.ClassFile.FieldType)) ∈ lw_all := lw_g (lw_at lw_m10 8 rfl) rfl
theorem q2318 : (Jvm.Cond.methodLink "CoinJudgeModel" (319 : Nat) ({ cls := "CoinJudgeModel", name := "again", desc := "([BII[BI)V" } : Jvm.MethodName)) ∈ lw_all := lw_g (lw_at lw_m10 9 rfl) rfl
theorem q2319 : (Jvm.Cond.privateMethod ({ cls := "CoinJudgeModel", name := "again", desc := "([BII[BI)V" } : Jvm.MethodName)) ∈ lw_tbl := lw_at lw_m10 10 rfl
theorem q2320 : (Jvm.Cond.instanceMethod ({ cls := "CoinJudgeModel", name := "again", desc := "([BII[BI)V" } : Jvm.MethodName)) ∈ lw_all := lw_g (lw_at lw_m10 11 rfl) rfl
theorem q2321 : (Jvm.Cond.code ({ cls := "CoinJudgeModel", name := "again", desc := "([BII[BI)V" } : Jvm.MethodName) prog_27_method_13_code (6 : Nat) (Option.none : Option Jvm.ClassFile.FieldType)) ∈ lw_all := lw_g (lw_at lw_m10 12 rfl) rfl
theorem q2322 : (Jvm.Cond.methodLink "CoinJudgeModel" (83 : Nat) ({ cls := "CoinJudgeModel", name := "sha", desc := "([BII[BI)V" } : Jvm.MethodName)) ∈ lw_all := lw_g (lw_at lw_m10 13 rfl) rfl
theorem q2323 : (Jvm.Cond.privateMethod ({ cls := "CoinJudgeModel", name := "sha", desc := "([BII[BI)V" } : Jvm.MethodName)) ∈ lw_tbl := lw_at lw_m10 14 rfl
theorem q2324 : (Jvm.Cond.instanceMethod ({ cls := "CoinJudgeModel", name := "sha", desc := "([BII[BI)V" } : Jvm.MethodName)) ∈ lw_all := lw_g (lw_at lw_m10 15 rfl) rfl
theorem q2325 : (Jvm.Cond.code ({ cls := "CoinJudgeModel", name := "sha", desc := "([BII[BI)V" } : Jvm.MethodName) prog_27_method_6_code (9 : Nat) (Option.none : Option Jvm.ClassFile.FieldType)) ∈ lw_all := lw_g (lw_at lw_m10 16 rfl) rfl
theorem q2326 : (Jvm.Cond.methodLink "CoinJudgeModel" (26 : Nat) ({ cls := "CoinJudgeModel", name := "shaBlock", desc := "([BI)V" } : Jvm.MethodName)) ∈ lw_all := lw_g (lw_at lw_m10 17 rfl) rfl
theorem q2327 : (Jvm.Cond.privateMethod ({ cls := "CoinJudgeModel", name := "shaBlock", desc := "([BI)V" } : Jvm.MethodName)) ∈ lw_tbl := lw_at lw_m10 18 rfl
theorem q2328 : (Jvm.Cond.instanceMethod ({ cls := "CoinJudgeModel", name := "shaBlock", desc := "([BI)V" } : Jvm.MethodName)) ∈ lw_all := lw_g (lw_at lw_m10 19 rfl) rfl
theorem q2329 : (Jvm.Cond.code ({ cls := "CoinJudgeModel", name := "shaBlock", desc := "([BI)V" } : Jvm.MethodName) prog_27_method_7_code (7 : Nat) (Option.none : Option Jvm.ClassFile.FieldType)) ∈ lw_all := lw_g (lw_at lw_m10 20 rfl) rfl
theorem q2330 : (Jvm.Cond.methodLink "CoinJudgeModel" (41 : Nat) ({ cls := "CoinJudgeModel", name := "turn", desc := "(II)I" } : Jvm.MethodName)) ∈ lw_all := lw_g (lw_at lw_m10 21 rfl) rfl
theorem q2331 : (Jvm.Cond.static ({ cls := "CoinJudgeModel", name := "turn", desc := "(II)I" } : Jvm.MethodName)) ∈ lw_all := lw_g (lw_at lw_m10 22 rfl) rfl
theorem q2332 : (Jvm.Cond.code ({ cls := "CoinJudgeModel", name := "turn", desc := "(II)I" } : Jvm.MethodName) prog_27_method_8_code (2 : Nat) (Option.some Jvm.ClassFile.FieldType.int)) ∈ lw_all := lw_g (lw_at lw_m10 23 rfl) rfl
theorem q2333 : (Jvm.Cond.methodLink "CoinJudgeModel" (30 : Nat) ({ cls := "CoinJudgeModel", name := "pad", desc := "([BIIIZ)I" } : Jvm.MethodName)) ∈ lw_all := lw_g (lw_at lw_m10 24 rfl) rfl
theorem q2334 : (Jvm.Cond.privateMethod ({ cls := "CoinJudgeModel", name := "pad", desc := "([BIIIZ)I" } : Jvm.MethodName)) ∈ lw_tbl := lw_at lw_m10 25 rfl
theorem q2335 : (Jvm.Cond.instanceMethod ({ cls := "CoinJudgeModel", name := "pad", desc := "([BIIIZ)I" } : Jvm.MethodName)) ∈ lw_all := lw_g (lw_at lw_m10 26 rfl) rfl
theorem q2336 : (Jvm.Cond.code ({ cls := "CoinJudgeModel", name := "pad", desc := "([BIIIZ)I" } : Jvm.MethodName) prog_27_method_9_code (10 : Nat) (Option.some Jvm.ClassFile.FieldType.int)) ∈ lw_all := lw_g (lw_at lw_m10 27 rfl) rfl
theorem q2337 : (Jvm.Cond.constantLong "CoinJudgeModel" (51 : Nat) (8 : Int64)) ∈ lw_all := lw_g (lw_at lw_m10 28 rfl) rfl
theorem q2338 : (Jvm.Cond.methodLink "CoinJudgeModel" (441 : Nat) ({ cls := "CoinJudgeModel", name := "root", desc := "([BI)V" } : Jvm.MethodName)) ∈ lw_all := lw_g (lw_at lw_m10 29 rfl) rfl
theorem q2339 : (Jvm.Cond.privateMethod ({ cls := "CoinJudgeModel", name := "root", desc := "([BI)V" } : Jvm.MethodName)) ∈ lw_tbl := lw_at lw_m10 30 rfl
theorem q2340 : (Jvm.Cond.instanceMethod ({ cls := "CoinJudgeModel", name := "root", desc := "([BI)V" } : Jvm.MethodName)) ∈ lw_all := lw_g (lw_at lw_m10 31 rfl) rfl
theorem q2341 : (Jvm.Cond.code ({ cls := "CoinJudgeModel", name := "root", desc := "([BI)V" } : Jvm.MethodName) prog_27_method_43_code (6 : Nat) (Option.none : Option Jvm.ClassFile.FieldType)) ∈ lw_all := lw_g (lw_at lw_m10 32 rfl) rfl
theorem q2342 : (Jvm.Cond.methodLink "CoinJudgeModel" (435 : Nat) ({ cls := "CoinJudgeModel", name := "due", desc := "(I)I" } : Jvm.MethodName)) ∈ lw_all := lw_g (lw_at lw_m10 33 rfl) rfl
theorem q2343 : (Jvm.Cond.privateMethod ({ cls := "CoinJudgeModel", name := "due", desc := "(I)I" } : Jvm.MethodName)) ∈ lw_tbl := lw_at lw_m10 34 rfl
theorem q2344 : (Jvm.Cond.instanceMethod ({ cls := "CoinJudgeModel", name := "due", desc := "(I)I" } : Jvm.MethodName)) ∈ lw_all := lw_g (lw_at lw_m10 35 rfl) rfl
theorem q2345 : (Jvm.Cond.code ({ cls := "CoinJudgeModel", name := "due", desc := "(I)I" } : Jvm.MethodName) prog_27_method_41_code (11 : Nat) (Option.some Jvm.ClassFile.FieldType.int)) ∈ lw_all := lw_g (lw_at lw_m10 36 rfl) rfl
theorem q2346 : (Jvm.Cond.methodLink "CoinJudgeModel" (366 : Nat) ({ cls := "CoinJudgeModel", name := "bitsOf", desc := "(I)J" } : Jvm.MethodName)) ∈ lw_all := lw_g (lw_at lw_m10 37 rfl) rfl
theorem q2347 : (Jvm.Cond.privateMethod ({ cls := "CoinJudgeModel", name := "bitsOf", desc := "(I)J" } : Jvm.MethodName)) ∈ lw_tbl := lw_at lw_m10 38 rfl
theorem q2348 : (Jvm.Cond.instanceMethod ({ cls := "CoinJudgeModel", name := "bitsOf", desc := "(I)J" } : Jvm.MethodName)) ∈ lw_all := lw_g (lw_at lw_m10 39 rfl) rfl
theorem q2349 : (Jvm.Cond.code ({ cls := "CoinJudgeModel", name := "bitsOf", desc := "(I)J" } : Jvm.MethodName) prog_27_method_37_code (2 : Nat) (Option.some Jvm.ClassFile.FieldType.long)) ∈ lw_all := lw_g (lw_at lw_m10 40 rfl) rfl
theorem q2350 : (Jvm.Cond.methodLink "CoinJudgeModel" (267 : Nat) ({ cls := "CoinJudgeModel", name := "number", desc := "([BII)J" } : Jvm.MethodName)) ∈ lw_all := lw_g (lw_at lw_m10 41 rfl) rfl
theorem q2351 : (Jvm.Cond.privateMethod ({ cls := "CoinJudgeModel", name := "number", desc := "([BII)J" } : Jvm.MethodName)) ∈ lw_tbl := lw_at lw_m10 42 rfl
theorem q2352 : (Jvm.Cond.instanceMethod ({ cls := "CoinJudgeModel", name := "number", desc := "([BII)J" } : Jvm.MethodName)) ∈ lw_all := lw_g (lw_at lw_m10 43 rfl) rfl
theorem q2353 : (Jvm.Cond.code ({ cls := "CoinJudgeModel", name := "number", desc := "([BII)J" } : Jvm.MethodName) prog_27_method_25_code (7 : Nat) (Option.some Jvm.ClassFile.FieldType.long)) ∈ lw_all := lw_g (lw_at lw_m10 44 rfl) rfl
theorem q2354 : (Jvm.Cond.methodLink "CoinJudgeModel" (357 : Nat) ({ cls := "CoinJudgeModel", name := "timeOf", desc := "(I)J" } : Jvm.MethodName)) ∈ lw_all := lw_g (lw_at lw_m10 45 rfl) rfl
theorem q2355 : (Jvm.Cond.privateMethod ({ cls := "CoinJudgeModel", name := "timeOf", desc := "(I)J" } : Jvm.MethodName)) ∈ lw_tbl := lw_at lw_m10 46 rfl
theorem q2356 : (Jvm.Cond.instanceMethod ({ cls := "CoinJudgeModel", name := "timeOf", desc := "(I)J" } : Jvm.MethodName)) ∈ lw_all := lw_g (lw_at lw_m10 47 rfl) rfl
theorem q2357 : (Jvm.Cond.code ({ cls := "CoinJudgeModel", name := "timeOf", desc := "(I)J" } : Jvm.MethodName) prog_27_method_38_code (2 : Nat) (Option.some Jvm.ClassFile.FieldType.long)) ∈ lw_all := lw_g (lw_at lw_m10 48 rfl) rfl
theorem q2358 : (Jvm.Cond.methodLink "CoinJudgeModel" (369 : Nat) ({ cls := "CoinJudgeModel", name := "up", desc := "(II)I" } : Jvm.MethodName)) ∈ lw_all := lw_g (lw_at lw_m10 49 rfl) rfl
theorem q2359 : (Jvm.Cond.privateMethod ({ cls := "CoinJudgeModel", name := "up", desc := "(II)I" } : Jvm.MethodName)) ∈ lw_tbl := lw_at lw_m10 50 rfl
theorem q2360 : (Jvm.Cond.instanceMethod ({ cls := "CoinJudgeModel", name := "up", desc := "(II)I" } : Jvm.MethodName)) ∈ lw_all := lw_g (lw_at lw_m10 51 rfl) rfl
theorem q2361 : (Jvm.Cond.code ({ cls := "CoinJudgeModel", name := "up", desc := "(II)I" } : Jvm.MethodName) prog_27_method_39_code (5 : Nat) (Option.some Jvm.ClassFile.FieldType.int)) ∈ lw_all := lw_g (lw_at lw_m10 52 rfl) rfl
theorem q2362 : (Jvm.Cond.constantLong "CoinJudgeModel" (372 : Nat) (1200 : Int64)) ∈ lw_all := lw_g (lw_at lw_m10 53 rfl) rfl
theorem q2363 : (Jvm.Cond.constantLong "CoinJudgeModel" (374 : Nat) (19200 : Int64)) ∈ lw_all := lw_g (lw_at lw_m10 54 rfl) rfl
theorem q2364 : (Jvm.Cond.constantLong "CoinJudgeModel" (385 : Nat) (4800 : Int64)) ∈ lw_all := lw_g (lw_at lw_m10 55 rfl) rfl
theorem q2365 : (Jvm.Cond.methodLink "CoinJudgeModel" (165 : Nat) ({ cls := "CoinJudgeModel$Ring", name := "compare", desc := "([I[I)I" } : Jvm.MethodName)) ∈ lw_all := lw_g (lw_at lw_m10 56 rfl) rfl
theorem q2366 : (Jvm.Cond.methodLink "CoinJudgeModel" (390 : Nat) ({ cls := "CoinJudgeModel", name := "bits", desc := "([I)I" } : Jvm.MethodName)) ∈ lw_all := lw_g (lw_at lw_m10 57 rfl) rfl
theorem q2367 : (Jvm.Cond.static ({ cls := "CoinJudgeModel", name := "bits", desc := "([I)I" } : Jvm.MethodName)) ∈ lw_all := lw_g (lw_at lw_m10 58 rfl) rfl
theorem q2368 : (Jvm.Cond.code ({ cls := "CoinJudgeModel", name := "bits", desc := "([I)I" } : Jvm.MethodName) prog_27_method_34_code (3 : Nat) (Option.some Jvm.ClassFile.FieldType.int)) ∈ lw_all := lw_g (lw_at lw_m10 59 rfl) rfl
theorem q2369 : (Jvm.Cond.methodLink "CoinJudgeModel" (334 : Nat) ({ cls := "CoinJudgeModel", name := "byteOf", desc := "([II)I" } : Jvm.MethodName)) ∈ lw_all := lw_g (lw_at lw_m10 60 rfl) rfl
theorem q2370 : (Jvm.Cond.static ({ cls := "CoinJudgeModel", name := "byteOf", desc := "([II)I" } : Jvm.MethodName)) ∈ lw_all := lw_g (lw_at lw_m10 61 rfl) rfl
theorem q2371 : (Jvm.Cond.code ({ cls := "CoinJudgeModel", name := "byteOf", desc := "([II)I" } : Jvm.MethodName) prog_27_method_33_code (2 : Nat) (Option.some Jvm.ClassFile.FieldType.int)) ∈ lw_all := lw_g (lw_at lw_m10 62 rfl) rfl
theorem q2372 : (Jvm.Cond.constantLong "CoinJudgeModel" (924 : Nat) (2 : Int64)) ∈ lw_all := lw_g (lw_at lw_m10 63 rfl) rfl
theorem q2373 : (Jvm.Cond.methodLink "CoinJudgeModel" (158 : Nat) ({ cls := "CoinJudgeModel", name := "fromBytes", desc := "([BIZ[I)V" } : Jvm.MethodName)) ∈ lw_all := lw_g (lw_at lw_m10 64 rfl) rfl
theorem q2374 : (Jvm.Cond.static ({ cls := "CoinJudgeModel", name := "fromBytes", desc := "([BIZ[I)V" } : Jvm.MethodName)) ∈ lw_all := lw_g (lw_at lw_m10 65 rfl) rfl
theorem q2375 : (Jvm.Cond.code ({ cls := "CoinJudgeModel", name := "fromBytes", desc := "([BIZ[I)V" } : Jvm.MethodName) prog_27_method_1_code (7 : Nat) (Option.none : Option Jvm.ClassFile.FieldType)) ∈ lw_all := lw_g (lw_at lw_m10 66 rfl) rfl
theorem q2376 : (Jvm.Cond.methodLink "CoinJudgeModel" (878 : Nat) ({ cls := "CoinJudgeModel", name := "keep", desc := "([BII)V" } : Jvm.MethodName)) ∈ lw_all := lw_g (lw_at lw_m10 67 rfl) rfl
theorem q2377 : (Jvm.Cond.privateMethod ({ cls := "CoinJudgeModel", name := "keep", desc := "([BII)V" } : Jvm.MethodName)) ∈ lw_tbl := lw_at lw_m10 68 rfl
theorem q2378 : (Jvm.Cond.instanceMethod ({ cls := "CoinJudgeModel", name := "keep", desc := "([BII)V" } : Jvm.MethodName)) ∈ lw_all := lw_g (lw_at lw_m10 69 rfl) rfl
theorem q2379 : (Jvm.Cond.code ({ cls := "CoinJudgeModel", name := "keep", desc := "([BII)V" } : Jvm.MethodName) prog_27_method_57_code (6 : Nat) (Option.none : Option Jvm.ClassFile.FieldType)) ∈ lw_all := lw_g (lw_at lw_m10 70 rfl) rfl
theorem q2380 : (Jvm.Cond.instantiable "CoinJudgeModel$Block" (9 : Nat)) ∈ lw_all := lw_g (lw_at lw_m10 71 rfl) rfl
theorem q2381 : (Jvm.Cond.methodLinkNest "CoinJudgeModel" (503 : Nat) ({ cls := "CoinJudgeModel$Block", name := "<init>", desc := "()V" } : Jvm.MethodName) "CoinJudgeModel") ∈ lw_tbl := lw_at lw_m10 72 rfl
theorem q2382 : (Jvm.Cond.instanceMethod ({ cls := "CoinJudgeModel$Block", name := "<init>", desc := "()V" } : Jvm.MethodName)) ∈ lw_all := lw_g (lw_at lw_m10 73 rfl) rfl
theorem q2383 : (Jvm.Cond.code ({ cls := "CoinJudgeModel$Block", name := "<init>", desc := "()V" } : Jvm.MethodName) prog_28_method_1_code (1 : Nat) (Option.none : Option Jvm.ClassFile.FieldType)) ∈ lw_all := lw_g (lw_at lw_m10 74 rfl) rfl
theorem q2384 : (Jvm.Cond.methodLink "CoinJudgeModel$Block" (3 : Nat) ({ cls := "java/lang/Object", name := "<init>", desc := "()V" } : Jvm.MethodName)) ∈ lw_all := lw_g (lw_at lw_m10 75 rfl) rfl
theorem q2385 : (Jvm.Cond.classLink "CoinJudgeModel$Block" (18 : Nat) "CoinJudgeModel$Parsed") ∈ lw_all := lw_g (lw_at lw_m10 76 rfl) rfl
theorem q2386 : (Jvm.Cond.methodLinkNest "CoinJudgeModel$Block" (20 : Nat) ({ cls := "CoinJudgeModel$Parsed", name := "<init>", desc := "()V" } : Jvm.MethodName) "CoinJudgeModel") ∈ lw_tbl := lw_at lw_m10 77 rfl
theorem q2387 : (Jvm.Cond.fieldLink "CoinJudgeModel$Block" (9 : Nat) "CoinJudgeModel$Block" "bytes" "[B") ∈ lw_all := lw_g (lw_at lw_m10 78 rfl) rfl
theorem q2388 : (Jvm.Cond.fieldLinkNest "CoinJudgeModel" (351 : Nat) "CoinJudgeModel$Block" "bytes" "[B" "CoinJudgeModel") ∈ lw_tbl := lw_at lw_m10 79 rfl
theorem q2389 : (Jvm.Cond.fieldLinkNest "CoinJudgeModel" (507 : Nat) "CoinJudgeModel$Block" "length" "I" "CoinJudgeModel") ∈ lw_tbl := lw_at lw_m10 80 rfl
theorem q2390 : (Jvm.Cond.fieldLink "CoinJudgeModel$Block" (15 : Nat) "CoinJudgeModel$Block" "hash" "[B") ∈ lw_all := lw_g (lw_at lw_m10 81 rfl) rfl
theorem q2391 : (Jvm.Cond.fieldLinkNest "CoinJudgeModel" (406 : Nat) "CoinJudgeModel$Block" "hash" "[B" "CoinJudgeModel") ∈ lw_tbl := lw_at lw_m10 82 rfl
theorem q2392 : (Jvm.Cond.fieldLink "CoinJudgeModel$Block" (21 : Nat) "CoinJudgeModel$Block" "parsed" "LCoinJudgeModel$Parsed;") ∈ lw_all := lw_g (lw_at lw_m10 83 rfl) rfl
theorem q2393 : (Jvm.Cond.fieldLinkNest "CoinJudgeModel" (457 : Nat) "CoinJudgeModel$Block" "parsed" "LCoinJudgeModel$Parsed;" "CoinJudgeModel") ∈ lw_tbl := lw_at lw_m10 84 rfl
theorem q2394 : (Jvm.Cond.fieldLinkNest "CoinJudgeModel" (363 : Nat) "CoinJudgeModel$Block" "height" "I" "CoinJudgeModel") ∈ lw_tbl := lw_at lw_m10 85 rfl
theorem q2395 : (Jvm.Cond.fieldLinkNest "CoinJudgeModel" (354 : Nat) "CoinJudgeModel$Block" "parent" "I" "CoinJudgeModel") ∈ lw_tbl := lw_at lw_m10 86 rfl
theorem q2396 : (Jvm.Cond.fieldLinkNest "CoinJudgeModel" (432 : Nat) "CoinJudgeModel$Block" "bad" "Z" "CoinJudgeModel") ∈ lw_tbl := lw_at lw_m10 87 rfl
theorem q2397 : (Jvm.Cond.fieldLinkNest "CoinJudgeModel" (474 : Nat) "CoinJudgeModel$Block" "checked" "Z" "CoinJudgeModel") ∈ lw_tbl := lw_at lw_m10 88 rfl
theorem q2398 : (Jvm.Cond.fieldLink "CoinJudgeModel$Block" (25 : Nat) "CoinJudgeModel$Block" "work" "[I") ∈ lw_all := lw_g (lw_at lw_m10 89 rfl) rfl
theorem q2399 : (Jvm.Cond.fieldLinkNest "CoinJudgeModel" (517 : Nat) "CoinJudgeModel$Block" "work" "[I" "CoinJudgeModel") ∈ lw_tbl := lw_at lw_m10 90 rfl
theorem q2400 : (Jvm.Cond.laysFinal "CoinJudgeModel$Block" "CoinJudgeModel$Block" "bytes" "[B") ∈ lw_all := lw_g (lw_at lw_m10 91 rfl) rfl
theorem q2401 : (Jvm.Cond.soleField "CoinJudgeModel$Block" "bytes") ∈ lw_all := lw_g (lw_at lw_m10 92 rfl) rfl
theorem q2402 : (Jvm.Cond.lays "CoinJudgeModel$Block" "CoinJudgeModel$Block" "length" "I") ∈ lw_all := lw_g (lw_at lw_m10 93 rfl) rfl
theorem q2403 : (Jvm.Cond.soleField "CoinJudgeModel$Block" "length") ∈ lw_all := lw_g (lw_at lw_m10 94 rfl) rfl
theorem q2404 : (Jvm.Cond.laysFinal "CoinJudgeModel$Block" "CoinJudgeModel$Block" "hash" "[B") ∈ lw_all := lw_g (lw_at lw_m10 95 rfl) rfl
theorem q2405 : (Jvm.Cond.soleField "CoinJudgeModel$Block" "hash") ∈ lw_all := lw_g (lw_at lw_m10 96 rfl) rfl
theorem q2406 : (Jvm.Cond.laysFinal "CoinJudgeModel$Block" "CoinJudgeModel$Block" "parsed" "LCoinJudgeModel$Parsed;") ∈ lw_all := lw_g (lw_at lw_m10 97 rfl) rfl
theorem q2407 : (Jvm.Cond.soleField "CoinJudgeModel$Block" "parsed") ∈ lw_all := lw_g (lw_at lw_m10 98 rfl) rfl
theorem q2408 : (Jvm.Cond.lays "CoinJudgeModel$Block" "CoinJudgeModel$Block" "height" "I") ∈ lw_all := lw_g (lw_at lw_m10 99 rfl) rfl
theorem q2409 : (Jvm.Cond.soleField "CoinJudgeModel$Block" "height") ∈ lw_all := lw_g (lw_at lw_m10 100 rfl) rfl
theorem q2410 : (Jvm.Cond.lays "CoinJudgeModel$Block" "CoinJudgeModel$Block" "parent" "I") ∈ lw_all := lw_g (lw_at lw_m10 101 rfl) rfl
theorem q2411 : (Jvm.Cond.soleField "CoinJudgeModel$Block" "parent") ∈ lw_all := lw_g (lw_at lw_m10 102 rfl) rfl
theorem q2412 : (Jvm.Cond.lays "CoinJudgeModel$Block" "CoinJudgeModel$Block" "bad" "Z") ∈ lw_all := lw_g (lw_at lw_m10 103 rfl) rfl
theorem q2413 : (Jvm.Cond.soleField "CoinJudgeModel$Block" "bad") ∈ lw_all := lw_g (lw_at lw_m10 104 rfl) rfl
theorem q2414 : (Jvm.Cond.lays "CoinJudgeModel$Block" "CoinJudgeModel$Block" "checked" "Z") ∈ lw_all := lw_g (lw_at lw_m10 105 rfl) rfl
theorem q2415 : (Jvm.Cond.soleField "CoinJudgeModel$Block" "checked") ∈ lw_all := lw_g (lw_at lw_m10 106 rfl) rfl
theorem q2416 : (Jvm.Cond.laysFinal "CoinJudgeModel$Block" "CoinJudgeModel$Block" "work" "[I") ∈ lw_all := lw_g (lw_at lw_m10 107 rfl) rfl
theorem q2417 : (Jvm.Cond.soleField "CoinJudgeModel$Block" "work") ∈ lw_all := lw_g (lw_at lw_m10 108 rfl) rfl
theorem q2418 : (Jvm.Cond.superclass "CoinJudgeModel$Block" "java/lang/Object") ∈ lw_all := lw_g (lw_at lw_m10 109 rfl) rfl
theorem q2419 : (Jvm.Cond.methodLink "CoinJudgeModel" (510 : Nat) ({ cls := "CoinJudgeModel", name := "parse", desc := "([BILCoinJudgeModel$Parsed;)Z" } : Jvm.MethodName)) ∈ lw_all := lw_g (lw_at lw_m10 110 rfl) rfl
theorem q2420 : (Jvm.Cond.privateMethod ({ cls := "CoinJudgeModel", name := "parse", desc := "([BILCoinJudgeModel$Parsed;)Z" } : Jvm.MethodName)) ∈ lw_tbl := lw_at lw_m10 111 rfl
theorem q2421 : (Jvm.Cond.instanceMethod ({ cls := "CoinJudgeModel", name := "parse", desc := "([BILCoinJudgeModel$Parsed;)Z" } : Jvm.MethodName)) ∈ lw_all := lw_g (lw_at lw_m10 112 rfl) rfl
theorem q2422 : (Jvm.Cond.code ({ cls := "CoinJudgeModel", name := "parse", desc := "([BILCoinJudgeModel$Parsed;)Z" } : Jvm.MethodName) prog_27_method_28_code (12 : Nat) (Option.some Jvm.ClassFile.FieldType.boolean)) ∈ lw_all := lw_g (lw_at lw_m10 113 rfl) rfl
theorem q2423 : (Jvm.Cond.constantLong "CoinJudgeModel" (280 : Nat) (80 : Int64)) ∈ lw_all := lw_g (lw_at lw_m10 114 rfl) rfl
theorem q2424 : (Jvm.Cond.methodLink "CoinJudgeModel" (263 : Nat) ({ cls := "CoinJudgeModel", name := "skip", desc := "(J)V" } : Jvm.MethodName)) ∈ lw_all := lw_g (lw_at lw_m10 115 rfl) rfl
theorem q2425 : (Jvm.Cond.privateMethod ({ cls := "CoinJudgeModel", name := "skip", desc := "(J)V" } : Jvm.MethodName)) ∈ lw_tbl := lw_at lw_m10 116 rfl
theorem q2426 : (Jvm.Cond.instanceMethod ({ cls := "CoinJudgeModel", name := "skip", desc := "(J)V" } : Jvm.MethodName)) ∈ lw_all := lw_g (lw_at lw_m10 117 rfl) rfl
theorem q2427 : (Jvm.Cond.code ({ cls := "CoinJudgeModel", name := "skip", desc := "(J)V" } : Jvm.MethodName) prog_27_method_26_code (3 : Nat) (Option.none : Option Jvm.ClassFile.FieldType)) ∈ lw_all := lw_g (lw_at lw_m10 118 rfl) rfl
theorem q2428 : (Jvm.Cond.methodLink "CoinJudgeModel" (282 : Nat) ({ cls := "CoinJudgeModel", name := "count", desc := "()J" } : Jvm.MethodName)) ∈ lw_all := lw_g (lw_at lw_m10 119 rfl) rfl
theorem q2429 : (Jvm.Cond.privateMethod ({ cls := "CoinJudgeModel", name := "count", desc := "()J" } : Jvm.MethodName)) ∈ lw_tbl := lw_at lw_m10 120 rfl
theorem q2430 : (Jvm.Cond.instanceMethod ({ cls := "CoinJudgeModel", name := "count", desc := "()J" } : Jvm.MethodName)) ∈ lw_all := lw_g (lw_at lw_m10 121 rfl) rfl
theorem q2431 : (Jvm.Cond.code ({ cls := "CoinJudgeModel", name := "count", desc := "()J" } : Jvm.MethodName) prog_27_method_27_code (6 : Nat) (Option.some Jvm.ClassFile.FieldType.long)) ∈ lw_all := lw_g (lw_at lw_m10 122 rfl) rfl
theorem q2432 : (Jvm.Cond.methodLink "CoinJudgeModel" (259 : Nat) ({ cls := "CoinJudgeModel", name := "byteAt", desc := "(I)I" } : Jvm.MethodName)) ∈ lw_all := lw_g (lw_at lw_m10 123 rfl) rfl
theorem q2433 : (Jvm.Cond.privateMethod ({ cls := "CoinJudgeModel", name := "byteAt", desc := "(I)I" } : Jvm.MethodName)) ∈ lw_tbl := lw_at lw_m10 124 rfl
theorem q2434 : (Jvm.Cond.instanceMethod ({ cls := "CoinJudgeModel", name := "byteAt", desc := "(I)I" } : Jvm.MethodName)) ∈ lw_all := lw_g (lw_at lw_m10 125 rfl) rfl
theorem q2435 : (Jvm.Cond.code ({ cls := "CoinJudgeModel", name := "byteAt", desc := "(I)I" } : Jvm.MethodName) prog_27_method_24_code (2 : Nat) (Option.some Jvm.ClassFile.FieldType.int)) ∈ lw_all := lw_g (lw_at lw_m10 126 rfl) rfl
theorem q2436 : (Jvm.Cond.constantLong "CoinJudgeModel" (273 : Nat) (65536 : Int64)) ∈ lw_all := lw_g (lw_at lw_m10 127 rfl) rfl
theorem q2437 : (Jvm.Cond.constantLong "CoinJudgeModel" (286 : Nat) (12 : Int64)) ∈ lw_all := lw_g (lw_at lw_m10 128 rfl) rfl
theorem q2438 : (Jvm.Cond.constantLong "CoinJudgeModel" (293 : Nat) (4 : Int64)) ∈ lw_all := lw_g (lw_at lw_m10 129 rfl) rfl
theorem q2439 : (Jvm.Cond.constantLong "CoinJudgeModel" (295 : Nat) (40 : Int64)) ∈ lw_all := lw_g (lw_at lw_m10 130 rfl) rfl
theorem q2440 : (Jvm.Cond.constantLong "CoinJudgeModel" (303 : Nat) (36 : Int64)) ∈ lw_all := lw_g (lw_at lw_m10 131 rfl) rfl
theorem q2441 : (Jvm.Cond.constantLong "CoinJudgeModel" (305 : Nat) (180 : Int64)) ∈ lw_all := lw_g (lw_at lw_m10 132 rfl) rfl
theorem q2442 : (Jvm.Cond.methodLink "CoinJudgeModel" (519 : Nat) ({ cls := "CoinJudgeModel", name := "work", desc := "([I[I)V" } : Jvm.MethodName)) ∈ lw_all := lw_g (lw_at lw_m10 133 rfl) rfl
theorem q2443 : (Jvm.Cond.privateMethod ({ cls := "CoinJudgeModel", name := "work", desc := "([I[I)V" } : Jvm.MethodName)) ∈ lw_tbl := lw_at lw_m10 134 rfl
theorem q2444 : (Jvm.Cond.instanceMethod ({ cls := "CoinJudgeModel", name := "work", desc := "([I[I)V" } : Jvm.MethodName)) ∈ lw_all := lw_g (lw_at lw_m10 135 rfl) rfl
theorem q2445 : (Jvm.Cond.code ({ cls := "CoinJudgeModel", name := "work", desc := "([I[I)V" } : Jvm.MethodName) prog_27_method_35_code (6 : Nat) (Option.none : Option Jvm.ClassFile.FieldType)) ∈ lw_all := lw_g (lw_at lw_m10 136 rfl) rfl
theorem q2446 : (Jvm.Cond.methodLink "CoinJudgeModel" (345 : Nat) ({ cls := "CoinJudgeModel$Ring", name := "plus", desc := "([I[I[I)J" } : Jvm.MethodName)) ∈ lw_all := lw_g (lw_at lw_m10 137 rfl) rfl
theorem q2447 : (Jvm.Cond.methodLink "CoinJudgeModel" (241 : Nat) ({ cls := "CoinJudgeModel$Ring", name := "less", desc := "([I[I[I)J" } : Jvm.MethodName)) ∈ lw_all := lw_g (lw_at lw_m10 138 rfl) rfl
theorem q2448 : (Jvm.Cond.methodLink "CoinJudgeModel" (490 : Nat) ({ cls := "CoinJudgeModel", name := "connect", desc := "(I)I" } : Jvm.MethodName)) ∈ lw_all := lw_g (lw_at lw_m10 139 rfl) rfl
theorem q2449 : (Jvm.Cond.privateMethod ({ cls := "CoinJudgeModel", name := "connect", desc := "(I)I" } : Jvm.MethodName)) ∈ lw_tbl := lw_at lw_m10 140 rfl
theorem q2450 : (Jvm.Cond.instanceMethod ({ cls := "CoinJudgeModel", name := "connect", desc := "(I)I" } : Jvm.MethodName)) ∈ lw_all := lw_g (lw_at lw_m10 141 rfl) rfl
theorem q2451 : (Jvm.Cond.code ({ cls := "CoinJudgeModel", name := "connect", desc := "(I)I" } : Jvm.MethodName) prog_27_method_54_code (14 : Nat) (Option.some Jvm.ClassFile.FieldType.int)) ∈ lw_all := lw_g (lw_at lw_m10 142 rfl) rfl
theorem q2452 : (Jvm.Cond.methodLink "CoinJudgeModel" (419 : Nat) ({ cls := "CoinJudgeModel", name := "input", desc := "(LCoinJudgeModel$Parsed;II)I" } : Jvm.MethodName)) ∈ lw_all := lw_g (lw_at lw_m10 143 rfl) rfl
theorem q2453 : (Jvm.Cond.privateMethod ({ cls := "CoinJudgeModel", name := "input", desc := "(LCoinJudgeModel$Parsed;II)I" } : Jvm.MethodName)) ∈ lw_tbl := lw_at lw_m10 144 rfl
theorem q2454 : (Jvm.Cond.instanceMethod ({ cls := "CoinJudgeModel", name := "input", desc := "(LCoinJudgeModel$Parsed;II)I" } : Jvm.MethodName)) ∈ lw_all := lw_g (lw_at lw_m10 145 rfl) rfl
theorem q2455 : (Jvm.Cond.code ({ cls := "CoinJudgeModel", name := "input", desc := "(LCoinJudgeModel$Parsed;II)I" } : Jvm.MethodName) prog_27_method_30_code (6 : Nat) (Option.some Jvm.ClassFile.FieldType.int)) ∈ lw_all := lw_g (lw_at lw_m10 146 rfl) rfl
theorem q2456 : (Jvm.Cond.methodLink "CoinJudgeModel" (328 : Nat) ({ cls := "CoinJudgeModel", name := "script", desc := "([BI)I" } : Jvm.MethodName)) ∈ lw_all := lw_g (lw_at lw_m10 147 rfl) rfl
theorem q2457 : (Jvm.Cond.privateMethod ({ cls := "CoinJudgeModel", name := "script", desc := "([BI)I" } : Jvm.MethodName)) ∈ lw_tbl := lw_at lw_m10 148 rfl
theorem q2458 : (Jvm.Cond.instanceMethod ({ cls := "CoinJudgeModel", name := "script", desc := "([BI)I" } : Jvm.MethodName)) ∈ lw_all := lw_g (lw_at lw_m10 149 rfl) rfl
theorem q2459 : (Jvm.Cond.code ({ cls := "CoinJudgeModel", name := "script", desc := "([BI)I" } : Jvm.MethodName) prog_27_method_29_code (5 : Nat) (Option.some Jvm.ClassFile.FieldType.int)) ∈ lw_all := lw_g (lw_at lw_m10 150 rfl) rfl
theorem q2460 : (Jvm.Cond.methodLink "CoinJudgeModel" (467 : Nat) ({ cls := "CoinJudgeModel", name := "findCoin", desc := "([BIJ[II)I" } : Jvm.MethodName)) ∈ lw_all := lw_g (lw_at lw_m10 151 rfl) rfl
theorem q2461 : (Jvm.Cond.privateMethod ({ cls := "CoinJudgeModel", name := "findCoin", desc := "([BIJ[II)I" } : Jvm.MethodName)) ∈ lw_tbl := lw_at lw_m10 152 rfl
theorem q2462 : (Jvm.Cond.instanceMethod ({ cls := "CoinJudgeModel", name := "findCoin", desc := "([BIJ[II)I" } : Jvm.MethodName)) ∈ lw_all := lw_g (lw_at lw_m10 153 rfl) rfl
theorem q2463 : (Jvm.Cond.code ({ cls := "CoinJudgeModel", name := "findCoin", desc := "([BIJ[II)I" } : Jvm.MethodName) prog_27_method_52_code (9 : Nat) (Option.some Jvm.ClassFile.FieldType.int)) ∈ lw_all := lw_g (lw_at lw_m10 154 rfl) rfl
theorem q2464 : (Jvm.Cond.methodLink "CoinJudgeModel" (409 : Nat) ({ cls := "CoinJudgeModel", name := "alike", desc := "([BI[BII)Z" } : Jvm.MethodName)) ∈ lw_all := lw_g (lw_at lw_m10 155 rfl) rfl
theorem q2465 : (Jvm.Cond.static ({ cls := "CoinJudgeModel", name := "alike", desc := "([BI[BII)Z" } : Jvm.MethodName)) ∈ lw_all := lw_g (lw_at lw_m10 156 rfl) rfl
theorem q2466 : (Jvm.Cond.code ({ cls := "CoinJudgeModel", name := "alike", desc := "([BI[BII)Z" } : Jvm.MethodName) prog_27_method_44_code (6 : Nat) (Option.some Jvm.ClassFile.FieldType.boolean)) ∈ lw_all := lw_g (lw_at lw_m10 157 rfl) rfl
theorem q2467 : (Jvm.Cond.methodLink "CoinJudgeModel" (471 : Nat) ({ cls := "CoinJudgeModel", name := "valueOf", desc := "(I)J" } : Jvm.MethodName)) ∈ lw_all := lw_g (lw_at lw_m10 158 rfl) rfl
theorem q2468 : (Jvm.Cond.privateMethod ({ cls := "CoinJudgeModel", name := "valueOf", desc := "(I)J" } : Jvm.MethodName)) ∈ lw_tbl := lw_at lw_m10 159 rfl
theorem q2469 : (Jvm.Cond.instanceMethod ({ cls := "CoinJudgeModel", name := "valueOf", desc := "(I)J" } : Jvm.MethodName)) ∈ lw_all := lw_g (lw_at lw_m10 160 rfl) rfl
theorem q2470 : (Jvm.Cond.code ({ cls := "CoinJudgeModel", name := "valueOf", desc := "(I)J" } : Jvm.MethodName) prog_27_method_53_code (3 : Nat) (Option.some Jvm.ClassFile.FieldType.long)) ∈ lw_all := lw_g (lw_at lw_m10 161 rfl) rfl
theorem q2471 : (Jvm.Cond.methodLink "CoinJudgeModel" (450 : Nat) ({ cls := "CoinJudgeModel", name := "output", desc := "(LCoinJudgeModel$Parsed;II)I" } : Jvm.MethodName)) ∈ lw_all := lw_g (lw_at lw_m10 162 rfl) rfl
theorem q2472 : (Jvm.Cond.privateMethod ({ cls := "CoinJudgeModel", name := "output", desc := "(LCoinJudgeModel$Parsed;II)I" } : Jvm.MethodName)) ∈ lw_tbl := lw_at lw_m10 163 rfl
theorem q2473 : (Jvm.Cond.instanceMethod ({ cls := "CoinJudgeModel", name := "output", desc := "(LCoinJudgeModel$Parsed;II)I" } : Jvm.MethodName)) ∈ lw_all := lw_g (lw_at lw_m10 164 rfl) rfl
theorem q2474 : (Jvm.Cond.code ({ cls := "CoinJudgeModel", name := "output", desc := "(LCoinJudgeModel$Parsed;II)I" } : Jvm.MethodName) prog_27_method_31_code (6 : Nat) (Option.some Jvm.ClassFile.FieldType.int)) ∈ lw_all := lw_g (lw_at lw_m10 165 rfl) rfl
theorem q2475 : (Jvm.Cond.constantLong "CoinJudgeModel" (417 : Nat) (2100000000000000 : Int64)) ∈ lw_all := lw_g (lw_at lw_m10 166 rfl) rfl
theorem q2476 : (Jvm.Cond.methodLink "CoinJudgeModel" (477 : Nat) ({ cls := "CoinJudgeModel", name := "unlocks", desc := "(LCoinJudgeModel$Parsed;II)Z" } : Jvm.MethodName)) ∈ lw_all := lw_g (lw_at lw_m10 167 rfl) rfl
theorem q2477 : (Jvm.Cond.privateMethod ({ cls := "CoinJudgeModel", name := "unlocks", desc := "(LCoinJudgeModel$Parsed;II)Z" } : Jvm.MethodName)) ∈ lw_tbl := lw_at lw_m10 168 rfl
theorem q2478 : (Jvm.Cond.instanceMethod ({ cls := "CoinJudgeModel", name := "unlocks", desc := "(LCoinJudgeModel$Parsed;II)Z" } : Jvm.MethodName)) ∈ lw_all := lw_g (lw_at lw_m10 169 rfl) rfl
theorem q2479 : (Jvm.Cond.code ({ cls := "CoinJudgeModel", name := "unlocks", desc := "(LCoinJudgeModel$Parsed;II)Z" } : Jvm.MethodName) prog_27_method_88_code (13 : Nat) (Option.some Jvm.ClassFile.FieldType.boolean)) ∈ lw_all := lw_g (lw_at lw_m10 170 rfl) rfl
theorem q2480 : (Jvm.Cond.methodLink "CoinJudgeModel" (702 : Nat) ({ cls := "CoinJudgeModel", name := "run", desc := "([BII)Z" } : Jvm.MethodName)) ∈ lw_all := lw_g (lw_at lw_m10 171 rfl) rfl
theorem q2481 : (Jvm.Cond.privateMethod ({ cls := "CoinJudgeModel", name := "run", desc := "([BII)Z" } : Jvm.MethodName)) ∈ lw_tbl := lw_at lw_m10 172 rfl
theorem q2482 : (Jvm.Cond.instanceMethod ({ cls := "CoinJudgeModel", name := "run", desc := "([BII)Z" } : Jvm.MethodName)) ∈ lw_all := lw_g (lw_at lw_m10 173 rfl) rfl
theorem q2483 : (Jvm.Cond.code ({ cls := "CoinJudgeModel", name := "run", desc := "([BII)Z" } : Jvm.MethodName) prog_27_method_68_code (9 : Nat) (Option.some Jvm.ClassFile.FieldType.boolean)) ∈ lw_all := lw_g (lw_at lw_m10 174 rfl) rfl
theorem q2484 : (Jvm.Cond.methodLink "CoinJudgeModel" (423 : Nat) ({ cls := "CoinJudgeModel", name := "behind", desc := "([BII)I" } : Jvm.MethodName)) ∈ lw_all := lw_g (lw_at lw_m10 175 rfl) rfl
theorem q2485 : (Jvm.Cond.privateMethod ({ cls := "CoinJudgeModel", name := "behind", desc := "([BII)I" } : Jvm.MethodName)) ∈ lw_tbl := lw_at lw_m10 176 rfl
theorem q2486 : (Jvm.Cond.instanceMethod ({ cls := "CoinJudgeModel", name := "behind", desc := "([BII)I" } : Jvm.MethodName)) ∈ lw_all := lw_g (lw_at lw_m10 177 rfl) rfl
theorem q2487 : (Jvm.Cond.code ({ cls := "CoinJudgeModel", name := "behind", desc := "([BII)I" } : Jvm.MethodName) prog_27_method_49_code (8 : Nat) (Option.some Jvm.ClassFile.FieldType.int)) ∈ lw_all := lw_g (lw_at lw_m10 178 rfl) rfl
theorem q2488 : (Jvm.Cond.methodLink "CoinJudgeModel" (566 : Nat) ({ cls := "CoinJudgeModel", name := "never", desc := "(I)Z" } : Jvm.MethodName)) ∈ lw_all := lw_g (lw_at lw_m10 179 rfl) rfl
theorem q2489 : (Jvm.Cond.static ({ cls := "CoinJudgeModel", name := "never", desc := "(I)Z" } : Jvm.MethodName)) ∈ lw_all := lw_g (lw_at lw_m10 180 rfl) rfl
theorem q2490 : (Jvm.Cond.code ({ cls := "CoinJudgeModel", name := "never", desc := "(I)Z" } : Jvm.MethodName) prog_27_method_67_code (1 : Nat) (Option.some Jvm.ClassFile.FieldType.boolean)) ∈ lw_all := lw_g (lw_at lw_m10 181 rfl) rfl
theorem q2491 : (Jvm.Cond.methodLink "CoinJudgeModel" (574 : Nat) ({ cls := "CoinJudgeModel", name := "branch", desc := "(IZ)V" } : Jvm.MethodName)) ∈ lw_all := lw_g (lw_at lw_m10 182 rfl) rfl
theorem q2492 : (Jvm.Cond.privateMethod ({ cls := "CoinJudgeModel", name := "branch", desc := "(IZ)V" } : Jvm.MethodName)) ∈ lw_tbl := lw_at lw_m10 183 rfl
theorem q2493 : (Jvm.Cond.instanceMethod ({ cls := "CoinJudgeModel", name := "branch", desc := "(IZ)V" } : Jvm.MethodName)) ∈ lw_all := lw_g (lw_at lw_m10 184 rfl) rfl
theorem q2494 : (Jvm.Cond.code ({ cls := "CoinJudgeModel", name := "branch", desc := "(IZ)V" } : Jvm.MethodName) prog_27_method_69_code (4 : Nat) (Option.none : Option Jvm.ClassFile.FieldType)) ∈ lw_all := lw_g (lw_at lw_m10 185 rfl) rfl
theorem q2495 : (Jvm.Cond.methodLink "CoinJudgeModel" (582 : Nat) ({ cls := "CoinJudgeModel", name := "need", desc := "(I)Z" } : Jvm.MethodName)) ∈ lw_all := lw_g (lw_at lw_m10 186 rfl) rfl
theorem q2496 : (Jvm.Cond.privateMethod ({ cls := "CoinJudgeModel", name := "need", desc := "(I)Z" } : Jvm.MethodName)) ∈ lw_tbl := lw_at lw_m10 187 rfl
theorem q2497 : (Jvm.Cond.instanceMethod ({ cls := "CoinJudgeModel", name := "need", desc := "(I)Z" } : Jvm.MethodName)) ∈ lw_all := lw_g (lw_at lw_m10 188 rfl) rfl
theorem q2498 : (Jvm.Cond.code ({ cls := "CoinJudgeModel", name := "need", desc := "(I)Z" } : Jvm.MethodName) prog_27_method_66_code (2 : Nat) (Option.some Jvm.ClassFile.FieldType.boolean)) ∈ lw_all := lw_g (lw_at lw_m10 189 rfl) rfl
theorem q2499 : (Jvm.Cond.methodLink "CoinJudgeModel" (585 : Nat) ({ cls := "CoinJudgeModel", name := "isTrue", desc := "(I)Z" } : Jvm.MethodName)) ∈ lw_all := lw_g (lw_at lw_m10 190 rfl) rfl
theorem q2500 : (Jvm.Cond.privateMethod ({ cls := "CoinJudgeModel", name := "isTrue", desc := "(I)Z" } : Jvm.MethodName)) ∈ lw_tbl := lw_at lw_m10 191 rfl
theorem q2501 : (Jvm.Cond.instanceMethod ({ cls := "CoinJudgeModel", name := "isTrue", desc := "(I)Z" } : Jvm.MethodName)) ∈ lw_all := lw_g (lw_at lw_m10 192 rfl) rfl
theorem q2502 : (Jvm.Cond.code ({ cls := "CoinJudgeModel", name := "isTrue", desc := "(I)Z" } : Jvm.MethodName) prog_27_method_62_code (4 : Nat) (Option.some Jvm.ClassFile.FieldType.boolean)) ∈ lw_all := lw_g (lw_at lw_m10 193 rfl) rfl
theorem q2503 : (Jvm.Cond.methodLink "CoinJudgeModel" (578 : Nat) ({ cls := "CoinJudgeModel", name := "act", desc := "(I[BI)V" } : Jvm.MethodName)) ∈ lw_all := lw_g (lw_at lw_m10 194 rfl) rfl
theorem q2504 : (Jvm.Cond.privateMethod ({ cls := "CoinJudgeModel", name := "act", desc := "(I[BI)V" } : Jvm.MethodName)) ∈ lw_tbl := lw_at lw_m10 195 rfl
theorem q2505 : (Jvm.Cond.instanceMethod ({ cls := "CoinJudgeModel", name := "act", desc := "(I[BI)V" } : Jvm.MethodName)) ∈ lw_all := lw_g (lw_at lw_m10 196 rfl) rfl
theorem q2506 : (Jvm.Cond.code ({ cls := "CoinJudgeModel", name := "act", desc := "(I[BI)V" } : Jvm.MethodName) prog_27_method_70_code (5 : Nat) (Option.none : Option Jvm.ClassFile.FieldType)) ∈ lw_all := lw_g (lw_at lw_m10 197 rfl) rfl
theorem q2507 : (Jvm.Cond.methodLink "CoinJudgeModel" (538 : Nat) ({ cls := "CoinJudgeModel", name := "push", desc := "([BII)V" } : Jvm.MethodName)) ∈ lw_all := lw_g (lw_at lw_m10 198 rfl) rfl
theorem q2508 : (Jvm.Cond.privateMethod ({ cls := "CoinJudgeModel", name := "push", desc := "([BII)V" } : Jvm.MethodName)) ∈ lw_tbl := lw_at lw_m10 199 rfl
theorem q2509 : (Jvm.Cond.instanceMethod ({ cls := "CoinJudgeModel", name := "push", desc := "([BII)V" } : Jvm.MethodName)) ∈ lw_all := lw_g (lw_at lw_m10 200 rfl) rfl
theorem q2510 : (Jvm.Cond.code ({ cls := "CoinJudgeModel", name := "push", desc := "([BII)V" } : Jvm.MethodName) prog_27_method_59_code (6 : Nat) (Option.none : Option Jvm.ClassFile.FieldType)) ∈ lw_all := lw_g (lw_at lw_m10 201 rfl) rfl
theorem q2511 : (Jvm.Cond.methodLink "CoinJudgeModel" (531 : Nat) ({ cls := "CoinJudgeModel", name := "row", desc := "([[BI)[B" } : Jvm.MethodName)) ∈ lw_all := lw_g (lw_at lw_m10 202 rfl) rfl
theorem q2512 : (Jvm.Cond.static ({ cls := "CoinJudgeModel", name := "row", desc := "([[BI)[B" } : Jvm.MethodName)) ∈ lw_all := lw_g (lw_at lw_m10 203 rfl) rfl
theorem q2513 : (Jvm.Cond.code ({ cls := "CoinJudgeModel", name := "row", desc := "([[BI)[B" } : Jvm.MethodName) prog_27_method_58_code (2 : Nat) (Option.some (Jvm.ClassFile.FieldType.array Jvm.ClassFile.FieldType.byte))) ∈ lw_all := lw_g (lw_at lw_m10 204 rfl) rfl
theorem q2514 : (Jvm.Cond.methodLink "CoinJudgeModel" (545 : Nat) ({ cls := "CoinJudgeModel", name := "pushNumber", desc := "(J)V" } : Jvm.MethodName)) ∈ lw_all := lw_g (lw_at lw_m10 205 rfl) rfl
theorem q2515 : (Jvm.Cond.privateMethod ({ cls := "CoinJudgeModel", name := "pushNumber", desc := "(J)V" } : Jvm.MethodName)) ∈ lw_tbl := lw_at lw_m10 206 rfl
theorem q2516 : (Jvm.Cond.instanceMethod ({ cls := "CoinJudgeModel", name := "pushNumber", desc := "(J)V" } : Jvm.MethodName)) ∈ lw_all := lw_g (lw_at lw_m10 207 rfl) rfl
theorem q2517 : (Jvm.Cond.code ({ cls := "CoinJudgeModel", name := "pushNumber", desc := "(J)V" } : Jvm.MethodName) prog_27_method_63_code (6 : Nat) (Option.none : Option Jvm.ClassFile.FieldType)) ∈ lw_all := lw_g (lw_at lw_m10 208 rfl) rfl
theorem q2518 : (Jvm.Cond.methodLink "CoinJudgeModel" (588 : Nat) ({ cls := "CoinJudgeModel", name := "work", desc := "(II)V" } : Jvm.MethodName)) ∈ lw_all := lw_g (lw_at lw_m10 209 rfl) rfl
theorem q2519 : (Jvm.Cond.privateMethod ({ cls := "CoinJudgeModel", name := "work", desc := "(II)V" } : Jvm.MethodName)) ∈ lw_tbl := lw_at lw_m10 210 rfl
theorem q2520 : (Jvm.Cond.instanceMethod ({ cls := "CoinJudgeModel", name := "work", desc := "(II)V" } : Jvm.MethodName)) ∈ lw_all := lw_g (lw_at lw_m10 211 rfl) rfl
theorem q2521 : (Jvm.Cond.code ({ cls := "CoinJudgeModel", name := "work", desc := "(II)V" } : Jvm.MethodName) prog_27_method_73_code (3 : Nat) (Option.none : Option Jvm.ClassFile.FieldType)) ∈ lw_all := lw_g (lw_at lw_m10 212 rfl) rfl
theorem q2522 : (Jvm.Cond.methodLink "CoinJudgeModel" (621 : Nat) ({ cls := "CoinJudgeModel", name := "reckon", desc := "(I)V" } : Jvm.MethodName)) ∈ lw_all := lw_g (lw_at lw_m10 213 rfl) rfl
theorem q2523 : (Jvm.Cond.privateMethod ({ cls := "CoinJudgeModel", name := "reckon", desc := "(I)V" } : Jvm.MethodName)) ∈ lw_tbl := lw_at lw_m10 214 rfl
theorem q2524 : (Jvm.Cond.instanceMethod ({ cls := "CoinJudgeModel", name := "reckon", desc := "(I)V" } : Jvm.MethodName)) ∈ lw_all := lw_g (lw_at lw_m10 215 rfl) rfl
theorem q2525 : (Jvm.Cond.code ({ cls := "CoinJudgeModel", name := "reckon", desc := "(I)V" } : Jvm.MethodName) prog_27_method_74_code (9 : Nat) (Option.none : Option Jvm.ClassFile.FieldType)) ∈ lw_all := lw_g (lw_at lw_m10 216 rfl) rfl
theorem q2526 : (Jvm.Cond.methodLink "CoinJudgeModel" (617 : Nat) ({ cls := "CoinJudgeModel", name := "numberAt", desc := "(II)J" } : Jvm.MethodName)) ∈ lw_all := lw_g (lw_at lw_m10 217 rfl) rfl
theorem q2527 : (Jvm.Cond.privateMethod ({ cls := "CoinJudgeModel", name := "numberAt", desc := "(II)J" } : Jvm.MethodName)) ∈ lw_tbl := lw_at lw_m10 218 rfl
theorem q2528 : (Jvm.Cond.instanceMethod ({ cls := "CoinJudgeModel", name := "numberAt", desc := "(II)J" } : Jvm.MethodName)) ∈ lw_all := lw_g (lw_at lw_m10 219 rfl) rfl
theorem q2529 : (Jvm.Cond.code ({ cls := "CoinJudgeModel", name := "numberAt", desc := "(II)J" } : Jvm.MethodName) prog_27_method_65_code (8 : Nat) (Option.some Jvm.ClassFile.FieldType.long)) ∈ lw_all := lw_g (lw_at lw_m10 220 rfl) rfl
theorem q2530 : (Jvm.Cond.methodLink "CoinJudgeModel" (599 : Nat) ({ cls := "CoinJudgeModel", name := "pushTruth", desc := "(Z)V" } : Jvm.MethodName)) ∈ lw_all := lw_g (lw_at lw_m10 221 rfl) rfl
theorem q2531 : (Jvm.Cond.privateMethod ({ cls := "CoinJudgeModel", name := "pushTruth", desc := "(Z)V" } : Jvm.MethodName)) ∈ lw_tbl := lw_at lw_m10 222 rfl
theorem q2532 : (Jvm.Cond.instanceMethod ({ cls := "CoinJudgeModel", name := "pushTruth", desc := "(Z)V" } : Jvm.MethodName)) ∈ lw_all := lw_g (lw_at lw_m10 223 rfl) rfl
theorem q2533 : (Jvm.Cond.code ({ cls := "CoinJudgeModel", name := "pushTruth", desc := "(Z)V" } : Jvm.MethodName) prog_27_method_64_code (2 : Nat) (Option.none : Option Jvm.ClassFile.FieldType)) ∈ lw_all := lw_g (lw_at lw_m10 224 rfl) rfl
theorem q2534 : (Jvm.Cond.methodLink "CoinJudgeModel" (595 : Nat) ({ cls := "CoinJudgeModel", name := "answer", desc := "(ZZ)V" } : Jvm.MethodName)) ∈ lw_all := lw_g (lw_at lw_m10 225 rfl) rfl
theorem q2535 : (Jvm.Cond.privateMethod ({ cls := "CoinJudgeModel", name := "answer", desc := "(ZZ)V" } : Jvm.MethodName)) ∈ lw_tbl := lw_at lw_m10 226 rfl
theorem q2536 : (Jvm.Cond.instanceMethod ({ cls := "CoinJudgeModel", name := "answer", desc := "(ZZ)V" } : Jvm.MethodName)) ∈ lw_all := lw_g (lw_at lw_m10 227 rfl) rfl
theorem q2537 : (Jvm.Cond.code ({ cls := "CoinJudgeModel", name := "answer", desc := "(ZZ)V" } : Jvm.MethodName) prog_27_method_71_code (3 : Nat) (Option.none : Option Jvm.ClassFile.FieldType)) ∈ lw_all := lw_g (lw_at lw_m10 228 rfl) rfl
theorem q2538 : (Jvm.Cond.methodLink "CoinJudgeModel" (624 : Nat) ({ cls := "CoinJudgeModel", name := "digested", desc := "(I)V" } : Jvm.MethodName)) ∈ lw_all := lw_g (lw_at lw_m10 229 rfl) rfl
theorem q2539 : (Jvm.Cond.privateMethod ({ cls := "CoinJudgeModel", name := "digested", desc := "(I)V" } : Jvm.MethodName)) ∈ lw_tbl := lw_at lw_m10 230 rfl
theorem q2540 : (Jvm.Cond.instanceMethod ({ cls := "CoinJudgeModel", name := "digested", desc := "(I)V" } : Jvm.MethodName)) ∈ lw_all := lw_g (lw_at lw_m10 231 rfl) rfl
theorem q2541 : (Jvm.Cond.code ({ cls := "CoinJudgeModel", name := "digested", desc := "(I)V" } : Jvm.MethodName) prog_27_method_75_code (4 : Nat) (Option.none : Option Jvm.ClassFile.FieldType)) ∈ lw_all := lw_g (lw_at lw_m10 232 rfl) rfl
theorem q2542 : (Jvm.Cond.methodLink "CoinJudgeModel" (87 : Nat) ({ cls := "CoinJudgeModel", name := "ripe", desc := "([BII[BI)V" } : Jvm.MethodName)) ∈ lw_all := lw_g (lw_at lw_m10 233 rfl) rfl
theorem q2543 : (Jvm.Cond.privateMethod ({ cls := "CoinJudgeModel", name := "ripe", desc := "([BII[BI)V" } : Jvm.MethodName)) ∈ lw_tbl := lw_at lw_m10 234 rfl
theorem q2544 : (Jvm.Cond.instanceMethod ({ cls := "CoinJudgeModel", name := "ripe", desc := "([BII[BI)V" } : Jvm.MethodName)) ∈ lw_all := lw_g (lw_at lw_m10 235 rfl) rfl
theorem q2545 : (Jvm.Cond.code ({ cls := "CoinJudgeModel", name := "ripe", desc := "([BII[BI)V" } : Jvm.MethodName) prog_27_method_10_code (9 : Nat) (Option.none : Option Jvm.ClassFile.FieldType)) ∈ lw_all := lw_g (lw_at lw_m10 236 rfl) rfl
theorem q2546 : (Jvm.Cond.constant "CoinJudgeModel" (53 : Nat) (1732584193 : Int32)) ∈ lw_all := lw_g (lw_at lw_m10 237 rfl) rfl
theorem q2547 : (Jvm.Cond.constant "CoinJudgeModel" (54 : Nat) (-271733879 : Int32)) ∈ lw_all := lw_g (lw_at lw_m10 238 rfl) rfl
theorem q2548 : (Jvm.Cond.constant "CoinJudgeModel" (55 : Nat) (-1732584194 : Int32)) ∈ lw_all := lw_g (lw_at lw_m10 239 rfl) rfl
theorem q2549 : (Jvm.Cond.constant "CoinJudgeModel" (56 : Nat) (271733878 : Int32)) ∈ lw_all := lw_g (lw_at lw_m11 0 rfl) rfl
theorem q2550 : (Jvm.Cond.constant "CoinJudgeModel" (57 : Nat) (-1009589776 : Int32)) ∈ lw_all := lw_g (lw_at lw_m11 1 rfl) rfl
theorem q2551 : (Jvm.Cond.methodLink "CoinJudgeModel" (58 : Nat) ({ cls := "CoinJudgeModel", name := "ripeBlock", desc := "([BI)V" } : Jvm.MethodName)) ∈ lw_all := lw_g (lw_at lw_m11 2 rfl) rfl
theorem q2552 : (Jvm.Cond.privateMethod ({ cls := "CoinJudgeModel", name := "ripeBlock", desc := "([BI)V" } : Jvm.MethodName)) ∈ lw_tbl := lw_at lw_m11 3 rfl
theorem q2553 : (Jvm.Cond.instanceMethod ({ cls := "CoinJudgeModel", name := "ripeBlock", desc := "([BI)V" } : Jvm.MethodName)) ∈ lw_all := lw_g (lw_at lw_m11 4 rfl) rfl
theorem q2554 : (Jvm.Cond.code ({ cls := "CoinJudgeModel", name := "ripeBlock", desc := "([BI)V" } : Jvm.MethodName) prog_27_method_11_code (4 : Nat) (Option.none : Option Jvm.ClassFile.FieldType)) ∈ lw_all := lw_g (lw_at lw_m11 5 rfl) rfl
theorem q2555 : (Jvm.Cond.methodLink "CoinJudgeModel" (70 : Nat) ({ cls := "CoinJudgeModel", name := "side", desc := "([IIII)V" } : Jvm.MethodName)) ∈ lw_all := lw_g (lw_at lw_m11 6 rfl) rfl
theorem q2556 : (Jvm.Cond.privateMethod ({ cls := "CoinJudgeModel", name := "side", desc := "([IIII)V" } : Jvm.MethodName)) ∈ lw_tbl := lw_at lw_m11 7 rfl
theorem q2557 : (Jvm.Cond.instanceMethod ({ cls := "CoinJudgeModel", name := "side", desc := "([IIII)V" } : Jvm.MethodName)) ∈ lw_all := lw_g (lw_at lw_m11 8 rfl) rfl
theorem q2558 : (Jvm.Cond.code ({ cls := "CoinJudgeModel", name := "side", desc := "([IIII)V" } : Jvm.MethodName) prog_27_method_12_code (10 : Nat) (Option.none : Option Jvm.ClassFile.FieldType)) ∈ lw_all := lw_g (lw_at lw_m11 9 rfl) rfl
theorem q2559 : (Jvm.Cond.methodLink "CoinJudgeModel" (639 : Nat) ({ cls := "CoinJudgeModel", name := "hash160", desc := "([BII[BI)V" } : Jvm.MethodName)) ∈ lw_all := lw_g (lw_at lw_m11 10 rfl) rfl
theorem q2560 : (Jvm.Cond.privateMethod ({ cls := "CoinJudgeModel", name := "hash160", desc := "([BII[BI)V" } : Jvm.MethodName)) ∈ lw_tbl := lw_at lw_m11 11 rfl
theorem q2561 : (Jvm.Cond.instanceMethod ({ cls := "CoinJudgeModel", name := "hash160", desc := "([BII[BI)V" } : Jvm.MethodName)) ∈ lw_all := lw_g (lw_at lw_m11 12 rfl) rfl
theorem q2562 : (Jvm.Cond.code ({ cls := "CoinJudgeModel", name := "hash160", desc := "([BII[BI)V" } : Jvm.MethodName) prog_27_method_14_code (6 : Nat) (Option.none : Option Jvm.ClassFile.FieldType)) ∈ lw_all := lw_g (lw_at lw_m11 13 rfl) rfl
theorem q2563 : (Jvm.Cond.methodLink "CoinJudgeModel" (627 : Nat) ({ cls := "CoinJudgeModel", name := "asked", desc := "(I)V" } : Jvm.MethodName)) ∈ lw_all := lw_g (lw_at lw_m11 14 rfl) rfl
theorem q2564 : (Jvm.Cond.privateMethod ({ cls := "CoinJudgeModel", name := "asked", desc := "(I)V" } : Jvm.MethodName)) ∈ lw_tbl := lw_at lw_m11 15 rfl
theorem q2565 : (Jvm.Cond.instanceMethod ({ cls := "CoinJudgeModel", name := "asked", desc := "(I)V" } : Jvm.MethodName)) ∈ lw_all := lw_g (lw_at lw_m11 16 rfl) rfl
theorem q2566 : (Jvm.Cond.code ({ cls := "CoinJudgeModel", name := "asked", desc := "(I)V" } : Jvm.MethodName) prog_27_method_84_code (7 : Nat) (Option.none : Option Jvm.ClassFile.FieldType)) ∈ lw_all := lw_g (lw_at lw_m11 17 rfl) rfl
theorem q2567 : (Jvm.Cond.methodLink "CoinJudgeModel" (690 : Nat) ({ cls := "CoinJudgeModel", name := "load", desc := "([BII)V" } : Jvm.MethodName)) ∈ lw_all := lw_g (lw_at lw_m11 18 rfl) rfl
theorem q2568 : (Jvm.Cond.privateMethod ({ cls := "CoinJudgeModel", name := "load", desc := "([BII)V" } : Jvm.MethodName)) ∈ lw_tbl := lw_at lw_m11 19 rfl
theorem q2569 : (Jvm.Cond.instanceMethod ({ cls := "CoinJudgeModel", name := "load", desc := "([BII)V" } : Jvm.MethodName)) ∈ lw_all := lw_g (lw_at lw_m11 20 rfl) rfl
theorem q2570 : (Jvm.Cond.code ({ cls := "CoinJudgeModel", name := "load", desc := "([BII)V" } : Jvm.MethodName) prog_27_method_77_code (5 : Nat) (Option.none : Option Jvm.ClassFile.FieldType)) ∈ lw_all := lw_g (lw_at lw_m11 21 rfl) rfl
theorem q2571 : (Jvm.Cond.methodLink "CoinJudgeModel" (693 : Nat) ({ cls := "CoinJudgeModel", name := "without", desc := "([BI)V" } : Jvm.MethodName)) ∈ lw_all := lw_g (lw_at lw_m11 22 rfl) rfl
theorem q2572 : (Jvm.Cond.privateMethod ({ cls := "CoinJudgeModel", name := "without", desc := "([BI)V" } : Jvm.MethodName)) ∈ lw_tbl := lw_at lw_m11 23 rfl
theorem q2573 : (Jvm.Cond.instanceMethod ({ cls := "CoinJudgeModel", name := "without", desc := "([BI)V" } : Jvm.MethodName)) ∈ lw_all := lw_g (lw_at lw_m11 24 rfl) rfl
theorem q2574 : (Jvm.Cond.code ({ cls := "CoinJudgeModel", name := "without", desc := "([BI)V" } : Jvm.MethodName) prog_27_method_76_code (8 : Nat) (Option.none : Option Jvm.ClassFile.FieldType)) ∈ lw_all := lw_g (lw_at lw_m11 25 rfl) rfl
theorem q2575 : (Jvm.Cond.methodLink "CoinJudgeModel" (696 : Nat) ({ cls := "CoinJudgeModel", name := "isGood", desc := "([BI[BI)Z" } : Jvm.MethodName)) ∈ lw_all := lw_g (lw_at lw_m11 26 rfl) rfl
theorem q2576 : (Jvm.Cond.privateMethod ({ cls := "CoinJudgeModel", name := "isGood", desc := "([BI[BI)Z" } : Jvm.MethodName)) ∈ lw_tbl := lw_at lw_m11 27 rfl
theorem q2577 : (Jvm.Cond.instanceMethod ({ cls := "CoinJudgeModel", name := "isGood", desc := "([BI[BI)Z" } : Jvm.MethodName)) ∈ lw_all := lw_g (lw_at lw_m11 28 rfl) rfl
theorem q2578 : (Jvm.Cond.code ({ cls := "CoinJudgeModel", name := "isGood", desc := "([BI[BI)Z" } : Jvm.MethodName) prog_27_method_83_code (5 : Nat) (Option.some Jvm.ClassFile.FieldType.boolean)) ∈ lw_all := lw_g (lw_at lw_m11 29 rfl) rfl
theorem q2579 : (Jvm.Cond.methodLink "CoinJudgeModel" (670 : Nat) ({ cls := "CoinJudgeModel", name := "isDer", desc := "([BI)Z" } : Jvm.MethodName)) ∈ lw_all := lw_g (lw_at lw_m11 30 rfl) rfl
theorem q2580 : (Jvm.Cond.privateMethod ({ cls := "CoinJudgeModel", name := "isDer", desc := "([BI)Z" } : Jvm.MethodName)) ∈ lw_tbl := lw_at lw_m11 31 rfl
theorem q2581 : (Jvm.Cond.instanceMethod ({ cls := "CoinJudgeModel", name := "isDer", desc := "([BI)Z" } : Jvm.MethodName)) ∈ lw_all := lw_g (lw_at lw_m11 32 rfl) rfl
theorem q2582 : (Jvm.Cond.code ({ cls := "CoinJudgeModel", name := "isDer", desc := "([BI)Z" } : Jvm.MethodName) prog_27_method_21_code (5 : Nat) (Option.some Jvm.ClassFile.FieldType.boolean)) ∈ lw_all := lw_g (lw_at lw_m11 33 rfl) rfl
theorem q2583 : (Jvm.Cond.methodLink "CoinJudgeModel" (195 : Nat) ({ cls := "CoinJudgeModel", name := "shortest", desc := "([BII)Z" } : Jvm.MethodName)) ∈ lw_all := lw_g (lw_at lw_m11 34 rfl) rfl
theorem q2584 : (Jvm.Cond.static ({ cls := "CoinJudgeModel", name := "shortest", desc := "([BII)Z" } : Jvm.MethodName)) ∈ lw_all := lw_g (lw_at lw_m11 35 rfl) rfl
theorem q2585 : (Jvm.Cond.code ({ cls := "CoinJudgeModel", name := "shortest", desc := "([BII)Z" } : Jvm.MethodName) prog_27_method_22_code (3 : Nat) (Option.some Jvm.ClassFile.FieldType.boolean)) ∈ lw_all := lw_g (lw_at lw_m11 36 rfl) rfl
theorem q2586 : (Jvm.Cond.methodLink "CoinJudgeModel" (682 : Nat) ({ cls := "CoinJudgeModel", name := "hashed", desc := "(LCoinJudgeModel$Parsed;III)V" } : Jvm.MethodName)) ∈ lw_all := lw_g (lw_at lw_m11 37 rfl) rfl
theorem q2587 : (Jvm.Cond.privateMethod ({ cls := "CoinJudgeModel", name := "hashed", desc := "(LCoinJudgeModel$Parsed;III)V" } : Jvm.MethodName)) ∈ lw_tbl := lw_at lw_m11 38 rfl
theorem q2588 : (Jvm.Cond.instanceMethod ({ cls := "CoinJudgeModel", name := "hashed", desc := "(LCoinJudgeModel$Parsed;III)V" } : Jvm.MethodName)) ∈ lw_all := lw_g (lw_at lw_m11 39 rfl) rfl
theorem q2589 : (Jvm.Cond.code ({ cls := "CoinJudgeModel", name := "hashed", desc := "(LCoinJudgeModel$Parsed;III)V" } : Jvm.MethodName) prog_27_method_82_code (11 : Nat) (Option.none : Option Jvm.ClassFile.FieldType)) ∈ lw_all := lw_g (lw_at lw_m11 40 rfl) rfl
theorem q2590 : (Jvm.Cond.methodLink "CoinJudgeModel" (660 : Nat) ({ cls := "CoinJudgeModel", name := "unmarked", desc := "()V" } : Jvm.MethodName)) ∈ lw_all := lw_g (lw_at lw_m11 41 rfl) rfl
theorem q2591 : (Jvm.Cond.privateMethod ({ cls := "CoinJudgeModel", name := "unmarked", desc := "()V" } : Jvm.MethodName)) ∈ lw_tbl := lw_at lw_m11 42 rfl
theorem q2592 : (Jvm.Cond.instanceMethod ({ cls := "CoinJudgeModel", name := "unmarked", desc := "()V" } : Jvm.MethodName)) ∈ lw_all := lw_g (lw_at lw_m11 43 rfl) rfl
theorem q2593 : (Jvm.Cond.code ({ cls := "CoinJudgeModel", name := "unmarked", desc := "()V" } : Jvm.MethodName) prog_27_method_78_code (5 : Nat) (Option.none : Option Jvm.ClassFile.FieldType)) ∈ lw_all := lw_g (lw_at lw_m11 44 rfl) rfl
theorem q2594 : (Jvm.Cond.methodLink "CoinJudgeModel" (663 : Nat) ({ cls := "CoinJudgeModel", name := "lay", desc := "([BII)V" } : Jvm.MethodName)) ∈ lw_all := lw_g (lw_at lw_m11 45 rfl) rfl
theorem q2595 : (Jvm.Cond.privateMethod ({ cls := "CoinJudgeModel", name := "lay", desc := "([BII)V" } : Jvm.MethodName)) ∈ lw_tbl := lw_at lw_m11 46 rfl
theorem q2596 : (Jvm.Cond.instanceMethod ({ cls := "CoinJudgeModel", name := "lay", desc := "([BII)V" } : Jvm.MethodName)) ∈ lw_all := lw_g (lw_at lw_m11 47 rfl) rfl
theorem q2597 : (Jvm.Cond.code ({ cls := "CoinJudgeModel", name := "lay", desc := "([BII)V" } : Jvm.MethodName) prog_27_method_80_code (5 : Nat) (Option.none : Option Jvm.ClassFile.FieldType)) ∈ lw_all := lw_g (lw_at lw_m11 48 rfl) rfl
theorem q2598 : (Jvm.Cond.methodLink "CoinJudgeModel" (665 : Nat) ({ cls := "CoinJudgeModel", name := "layCount", desc := "(J)V" } : Jvm.MethodName)) ∈ lw_all := lw_g (lw_at lw_m11 49 rfl) rfl
theorem q2599 : (Jvm.Cond.privateMethod ({ cls := "CoinJudgeModel", name := "layCount", desc := "(J)V" } : Jvm.MethodName)) ∈ lw_tbl := lw_at lw_m11 50 rfl
theorem q2600 : (Jvm.Cond.instanceMethod ({ cls := "CoinJudgeModel", name := "layCount", desc := "(J)V" } : Jvm.MethodName)) ∈ lw_all := lw_g (lw_at lw_m11 51 rfl) rfl
theorem q2601 : (Jvm.Cond.code ({ cls := "CoinJudgeModel", name := "layCount", desc := "(J)V" } : Jvm.MethodName) prog_27_method_81_code (3 : Nat) (Option.none : Option Jvm.ClassFile.FieldType)) ∈ lw_all := lw_g (lw_at lw_m11 52 rfl) rfl
theorem q2602 : (Jvm.Cond.methodLink "CoinJudgeModel" (656 : Nat) ({ cls := "CoinJudgeModel", name := "lay", desc := "(JI)V" } : Jvm.MethodName)) ∈ lw_all := lw_g (lw_at lw_m11 53 rfl) rfl
theorem q2603 : (Jvm.Cond.privateMethod ({ cls := "CoinJudgeModel", name := "lay", desc := "(JI)V" } : Jvm.MethodName)) ∈ lw_tbl := lw_at lw_m11 54 rfl
theorem q2604 : (Jvm.Cond.instanceMethod ({ cls := "CoinJudgeModel", name := "lay", desc := "(JI)V" } : Jvm.MethodName)) ∈ lw_all := lw_g (lw_at lw_m11 55 rfl) rfl
theorem q2605 : (Jvm.Cond.code ({ cls := "CoinJudgeModel", name := "lay", desc := "(JI)V" } : Jvm.MethodName) prog_27_method_79_code (5 : Nat) (Option.none : Option Jvm.ClassFile.FieldType)) ∈ lw_all := lw_g (lw_at lw_m11 56 rfl) rfl
theorem q2606 : (Jvm.Cond.constantLong "CoinJudgeModel" (668 : Nat) (-1 : Int64)) ∈ lw_all := lw_g (lw_at lw_m11 57 rfl) rfl
theorem q2607 : (Jvm.Cond.methodLink "CoinJudgeModel" (686 : Nat) ({ cls := "CoinJudgeModel", name := "isRight", desc := "([B[BI)Z" } : Jvm.MethodName)) ∈ lw_all := lw_g (lw_at lw_m11 58 rfl) rfl
theorem q2608 : (Jvm.Cond.privateMethod ({ cls := "CoinJudgeModel", name := "isRight", desc := "([B[BI)Z" } : Jvm.MethodName)) ∈ lw_tbl := lw_at lw_m11 59 rfl
theorem q2609 : (Jvm.Cond.instanceMethod ({ cls := "CoinJudgeModel", name := "isRight", desc := "([B[BI)Z" } : Jvm.MethodName)) ∈ lw_all := lw_g (lw_at lw_m11 60 rfl) rfl
theorem q2610 : (Jvm.Cond.code ({ cls := "CoinJudgeModel", name := "isRight", desc := "([B[BI)Z" } : Jvm.MethodName) prog_27_method_23_code (6 : Nat) (Option.some Jvm.ClassFile.FieldType.boolean)) ∈ lw_all := lw_g (lw_at lw_m11 61 rfl) rfl
theorem q2611 : (Jvm.Cond.methodLink "CoinJudgeModel" (199 : Nat) ({ cls := "CoinJudgeModel", name := "readKey", desc := "([BI)Z" } : Jvm.MethodName)) ∈ lw_all := lw_g (lw_at lw_m11 62 rfl) rfl
theorem q2612 : (Jvm.Cond.privateMethod ({ cls := "CoinJudgeModel", name := "readKey", desc := "([BI)Z" } : Jvm.MethodName)) ∈ lw_tbl := lw_at lw_m11 63 rfl
theorem q2613 : (Jvm.Cond.instanceMethod ({ cls := "CoinJudgeModel", name := "readKey", desc := "([BI)Z" } : Jvm.MethodName)) ∈ lw_all := lw_g (lw_at lw_m11 64 rfl) rfl
theorem q2614 : (Jvm.Cond.code ({ cls := "CoinJudgeModel", name := "readKey", desc := "([BI)Z" } : Jvm.MethodName) prog_27_method_19_code (5 : Nat) (Option.some Jvm.ClassFile.FieldType.boolean)) ∈ lw_all := lw_g (lw_at lw_m11 65 rfl) rfl
theorem q2615 : (Jvm.Cond.methodLink "CoinJudgeModel" (111 : Nat) ({ cls := "CoinJudgeModel$Ring", name := "multiply", desc := "([I[I[I)V" } : Jvm.MethodName)) ∈ lw_all := lw_g (lw_at lw_m11 66 rfl) rfl
theorem q2616 : (Jvm.Cond.methodLink "CoinJudgeModel" (121 : Nat) ({ cls := "CoinJudgeModel$Ring", name := "add", desc := "([I[I[I)V" } : Jvm.MethodName)) ∈ lw_all := lw_g (lw_at lw_m11 67 rfl) rfl
theorem q2617 : (Jvm.Cond.methodLink "CoinJudgeModel" (188 : Nat) ({ cls := "CoinJudgeModel$Ring", name := "same", desc := "([I[I)Z" } : Jvm.MethodName)) ∈ lw_all := lw_g (lw_at lw_m11 68 rfl) rfl
theorem q2618 : (Jvm.Cond.static ({ cls := "CoinJudgeModel$Ring", name := "same", desc := "([I[I)Z" } : Jvm.MethodName)) ∈ lw_all := lw_g (lw_at lw_m11 69 rfl) rfl
theorem q2619 : (Jvm.Cond.code ({ cls := "CoinJudgeModel$Ring", name := "same", desc := "([I[I)Z" } : Jvm.MethodName) prog_31_method_4_code (2 : Nat) (Option.some Jvm.ClassFile.FieldType.boolean)) ∈ lw_all := lw_g (lw_at lw_m11 70 rfl) rfl
theorem q2620 : (Jvm.Cond.methodLink "CoinJudgeModel" (147 : Nat) ({ cls := "CoinJudgeModel$Ring", name := "power", desc := "([III[I)V" } : Jvm.MethodName)) ∈ lw_all := lw_g (lw_at lw_m11 71 rfl) rfl
theorem q2621 : (Jvm.Cond.instanceMethod ({ cls := "CoinJudgeModel$Ring", name := "power", desc := "([III[I)V" } : Jvm.MethodName)) ∈ lw_all := lw_g (lw_at lw_m11 72 rfl) rfl
theorem q2622 : (Jvm.Cond.selects "CoinJudgeModel$Ring" ({ cls := "CoinJudgeModel$Ring", name := "power", desc := "([III[I)V" } : Jvm.MethodName) ({ cls := "CoinJudgeModel$Ring", name := "power", desc := "([III[I)V" } : Jvm.MethodName)) ∈ lw_all := lw_g (lw_at lw_m11 73 rfl) rfl
theorem q2623 : (Jvm.Cond.code ({ cls := "CoinJudgeModel$Ring", name := "power", desc := "([III[I)V" } : Jvm.MethodName) prog_31_method_14_code (7 : Nat) (Option.none : Option Jvm.ClassFile.FieldType)) ∈ lw_all := lw_g (lw_at lw_m11 74 rfl) rfl
theorem q2624 : (Jvm.Cond.methodLink "CoinJudgeModel" (151 : Nat) ({ cls := "CoinJudgeModel$Ring", name := "leave", desc := "([I[I)V" } : Jvm.MethodName)) ∈ lw_all := lw_g (lw_at lw_m11 75 rfl) rfl
theorem q2625 : (Jvm.Cond.instanceMethod ({ cls := "CoinJudgeModel$Ring", name := "leave", desc := "([I[I)V" } : Jvm.MethodName)) ∈ lw_all := lw_g (lw_at lw_m11 76 rfl) rfl
theorem q2626 : (Jvm.Cond.selects "CoinJudgeModel$Ring" ({ cls := "CoinJudgeModel$Ring", name := "leave", desc := "([I[I)V" } : Jvm.MethodName) ({ cls := "CoinJudgeModel$Ring", name := "leave", desc := "([I[I)V" } : Jvm.MethodName)) ∈ lw_all := lw_g (lw_at lw_m11 77 rfl) rfl
theorem q2627 : (Jvm.Cond.code ({ cls := "CoinJudgeModel$Ring", name := "leave", desc := "([I[I)V" } : Jvm.MethodName) prog_31_method_13_code (3 : Nat) (Option.none : Option Jvm.ClassFile.FieldType)) ∈ lw_all := lw_g (lw_at lw_m11 78 rfl) rfl
theorem q2628 : (Jvm.Cond.methodLink "CoinJudgeModel" (133 : Nat) ({ cls := "CoinJudgeModel$Ring", name := "subtract", desc := "([I[I[I)V" } : Jvm.MethodName)) ∈ lw_all := lw_g (lw_at lw_m11 79 rfl) rfl
theorem q2629 : (Jvm.Cond.instanceMethod ({ cls := "CoinJudgeModel$Ring", name := "subtract", desc := "([I[I[I)V" } : Jvm.MethodName)) ∈ lw_all := lw_g (lw_at lw_m11 80 rfl) rfl
theorem q2630 : (Jvm.Cond.selects "CoinJudgeModel$Ring" ({ cls := "CoinJudgeModel$Ring", name := "subtract", desc := "([I[I[I)V" } : Jvm.MethodName) ({ cls := "CoinJudgeModel$Ring", name := "subtract", desc := "([I[I[I)V" } : Jvm.MethodName)) ∈ lw_all := lw_g (lw_at lw_m11 81 rfl) rfl
theorem q2631 : (Jvm.Cond.code ({ cls := "CoinJudgeModel$Ring", name := "subtract", desc := "([I[I[I)V" } : Jvm.MethodName) prog_31_method_9_code (4 : Nat) (Option.none : Option Jvm.ClassFile.FieldType)) ∈ lw_all := lw_g (lw_at lw_m11 82 rfl) rfl
theorem q2632 : (Jvm.Cond.methodLink "CoinJudgeModel" (206 : Nat) ({ cls := "CoinJudgeModel", name := "part", desc := "([BII[I)Z" } : Jvm.MethodName)) ∈ lw_all := lw_g (lw_at lw_m11 83 rfl) rfl
theorem q2633 : (Jvm.Cond.privateMethod ({ cls := "CoinJudgeModel", name := "part", desc := "([BII[I)Z" } : Jvm.MethodName)) ∈ lw_tbl := lw_at lw_m11 84 rfl
theorem q2634 : (Jvm.Cond.instanceMethod ({ cls := "CoinJudgeModel", name := "part", desc := "([BII[I)Z" } : Jvm.MethodName)) ∈ lw_all := lw_g (lw_at lw_m11 85 rfl) rfl
theorem q2635 : (Jvm.Cond.code ({ cls := "CoinJudgeModel", name := "part", desc := "([BII[I)Z" } : Jvm.MethodName) prog_27_method_20_code (7 : Nat) (Option.some Jvm.ClassFile.FieldType.boolean)) ∈ lw_all := lw_g (lw_at lw_m11 86 rfl) rfl
theorem q2636 : (Jvm.Cond.methodLink "CoinJudgeModel" (95 : Nat) ({ cls := "CoinJudgeModel$Ring", name := "isZero", desc := "([I)Z" } : Jvm.MethodName)) ∈ lw_all := lw_g (lw_at lw_m11 87 rfl) rfl
theorem q2637 : (Jvm.Cond.static ({ cls := "CoinJudgeModel$Ring", name := "isZero", desc := "([I)Z" } : Jvm.MethodName)) ∈ lw_all := lw_g (lw_at lw_m11 88 rfl) rfl
theorem q2638 : (Jvm.Cond.code ({ cls := "CoinJudgeModel$Ring", name := "isZero", desc := "([I)Z" } : Jvm.MethodName) prog_31_method_3_code (3 : Nat) (Option.some Jvm.ClassFile.FieldType.boolean)) ∈ lw_all := lw_g (lw_at lw_m11 89 rfl) rfl
theorem q2639 : (Jvm.Cond.methodLink "CoinJudgeModel" (231 : Nat) ({ cls := "CoinJudgeModel", name := "times", desc := "([ILCoinJudgeModel$Point;LCoinJudgeModel$Point;)V" } : Jvm.MethodName)) ∈ lw_all := lw_g (lw_at lw_m11 90 rfl) rfl
theorem q2640 : (Jvm.Cond.privateMethod ({ cls := "CoinJudgeModel", name := "times", desc := "([ILCoinJudgeModel$Point;LCoinJudgeModel$Point;)V" } : Jvm.MethodName)) ∈ lw_tbl := lw_at lw_m11 91 rfl
theorem q2641 : (Jvm.Cond.instanceMethod ({ cls := "CoinJudgeModel", name := "times", desc := "([ILCoinJudgeModel$Point;LCoinJudgeModel$Point;)V" } : Jvm.MethodName)) ∈ lw_all := lw_g (lw_at lw_m11 92 rfl) rfl
theorem q2642 : (Jvm.Cond.code ({ cls := "CoinJudgeModel", name := "times", desc := "([ILCoinJudgeModel$Point;LCoinJudgeModel$Point;)V" } : Jvm.MethodName) prog_27_method_17_code (5 : Nat) (Option.none : Option Jvm.ClassFile.FieldType)) ∈ lw_all := lw_g (lw_at lw_m11 93 rfl) rfl
theorem q2643 : (Jvm.Cond.methodLink "CoinJudgeModel" (140 : Nat) ({ cls := "CoinJudgeModel", name := "doubled", desc := "(LCoinJudgeModel$Point;)V" } : Jvm.MethodName)) ∈ lw_all := lw_g (lw_at lw_m11 94 rfl) rfl
theorem q2644 : (Jvm.Cond.privateMethod ({ cls := "CoinJudgeModel", name := "doubled", desc := "(LCoinJudgeModel$Point;)V" } : Jvm.MethodName)) ∈ lw_tbl := lw_at lw_m11 95 rfl
theorem q2645 : (Jvm.Cond.instanceMethod ({ cls := "CoinJudgeModel", name := "doubled", desc := "(LCoinJudgeModel$Point;)V" } : Jvm.MethodName)) ∈ lw_all := lw_g (lw_at lw_m11 96 rfl) rfl
theorem q2646 : (Jvm.Cond.code ({ cls := "CoinJudgeModel", name := "doubled", desc := "(LCoinJudgeModel$Point;)V" } : Jvm.MethodName) prog_27_method_15_code (2 : Nat) (Option.none : Option Jvm.ClassFile.FieldType)) ∈ lw_all := lw_g (lw_at lw_m11 97 rfl) rfl
theorem q2647 : (Jvm.Cond.methodLink "CoinJudgeModel" (143 : Nat) ({ cls := "CoinJudgeModel", name := "plus", desc := "(LCoinJudgeModel$Point;LCoinJudgeModel$Point;)V" } : Jvm.MethodName)) ∈ lw_all := lw_g (lw_at lw_m11 98 rfl) rfl
theorem q2648 : (Jvm.Cond.privateMethod ({ cls := "CoinJudgeModel", name := "plus", desc := "(LCoinJudgeModel$Point;LCoinJudgeModel$Point;)V" } : Jvm.MethodName)) ∈ lw_tbl := lw_at lw_m11 99 rfl
theorem q2649 : (Jvm.Cond.instanceMethod ({ cls := "CoinJudgeModel", name := "plus", desc := "(LCoinJudgeModel$Point;LCoinJudgeModel$Point;)V" } : Jvm.MethodName)) ∈ lw_all := lw_g (lw_at lw_m11 100 rfl) rfl
theorem q2650 : (Jvm.Cond.code ({ cls := "CoinJudgeModel", name := "plus", desc := "(LCoinJudgeModel$Point;LCoinJudgeModel$Point;)V" } : Jvm.MethodName) prog_27_method_16_code (4 : Nat) (Option.none : Option Jvm.ClassFile.FieldType)) ∈ lw_all := lw_g (lw_at lw_m11 101 rfl) rfl
theorem q2651 : (Jvm.Cond.methodLink "CoinJudgeModel" (136 : Nat) ({ cls := "CoinJudgeModel$Point", name := "take", desc := "(LCoinJudgeModel$Point;)V" } : Jvm.MethodName)) ∈ lw_all := lw_g (lw_at lw_m11 102 rfl) rfl
theorem q2652 : (Jvm.Cond.instanceMethod ({ cls := "CoinJudgeModel$Point", name := "take", desc := "(LCoinJudgeModel$Point;)V" } : Jvm.MethodName)) ∈ lw_all := lw_g (lw_at lw_m11 103 rfl) rfl
theorem q2653 : (Jvm.Cond.selects "CoinJudgeModel$Point" ({ cls := "CoinJudgeModel$Point", name := "take", desc := "(LCoinJudgeModel$Point;)V" } : Jvm.MethodName) ({ cls := "CoinJudgeModel$Point", name := "take", desc := "(LCoinJudgeModel$Point;)V" } : Jvm.MethodName)) ∈ lw_all := lw_g (lw_at lw_m11 104 rfl) rfl
theorem q2654 : (Jvm.Cond.code ({ cls := "CoinJudgeModel$Point", name := "take", desc := "(LCoinJudgeModel$Point;)V" } : Jvm.MethodName) prog_30_method_2_code (2 : Nat) (Option.none : Option Jvm.ClassFile.FieldType)) ∈ lw_all := lw_g (lw_at lw_m11 105 rfl) rfl
theorem q2655 : (Jvm.Cond.methodLink "CoinJudgeModel$Point" (19 : Nat) ({ cls := "CoinJudgeModel$Ring", name := "copy", desc := "([I[I)V" } : Jvm.MethodName)) ∈ lw_all := lw_g (lw_at lw_m11 106 rfl) rfl
theorem q2656 : (Jvm.Cond.methodLink "CoinJudgeModel" (237 : Nat) ({ cls := "CoinJudgeModel", name := "flat", desc := "(LCoinJudgeModel$Point;[I[I)V" } : Jvm.MethodName)) ∈ lw_all := lw_g (lw_at lw_m11 107 rfl) rfl
theorem q2657 : (Jvm.Cond.privateMethod ({ cls := "CoinJudgeModel", name := "flat", desc := "(LCoinJudgeModel$Point;[I[I)V" } : Jvm.MethodName)) ∈ lw_tbl := lw_at lw_m11 108 rfl
theorem q2658 : (Jvm.Cond.instanceMethod ({ cls := "CoinJudgeModel", name := "flat", desc := "(LCoinJudgeModel$Point;[I[I)V" } : Jvm.MethodName)) ∈ lw_all := lw_g (lw_at lw_m11 109 rfl) rfl
theorem q2659 : (Jvm.Cond.code ({ cls := "CoinJudgeModel", name := "flat", desc := "(LCoinJudgeModel$Point;[I[I)V" } : Jvm.MethodName) prog_27_method_18_code (4 : Nat) (Option.none : Option Jvm.ClassFile.FieldType)) ∈ lw_all := lw_g (lw_at lw_m11 110 rfl) rfl
theorem q2660 : (Jvm.Cond.methodLink "CoinJudgeModel" (630 : Nat) ({ cls := "CoinJudgeModel", name := "several", desc := "(I)V" } : Jvm.MethodName)) ∈ lw_all := lw_g (lw_at lw_m11 111 rfl) rfl
theorem q2661 : (Jvm.Cond.privateMethod ({ cls := "CoinJudgeModel", name := "several", desc := "(I)V" } : Jvm.MethodName)) ∈ lw_tbl := lw_at lw_m11 112 rfl
theorem q2662 : (Jvm.Cond.instanceMethod ({ cls := "CoinJudgeModel", name := "several", desc := "(I)V" } : Jvm.MethodName)) ∈ lw_all := lw_g (lw_at lw_m11 113 rfl) rfl
theorem q2663 : (Jvm.Cond.code ({ cls := "CoinJudgeModel", name := "several", desc := "(I)V" } : Jvm.MethodName) prog_27_method_85_code (14 : Nat) (Option.none : Option Jvm.ClassFile.FieldType)) ∈ lw_all := lw_g (lw_at lw_m11 114 rfl) rfl
theorem q2664 : (Jvm.Cond.constantLong "CoinJudgeModel" (700 : Nat) (20 : Int64)) ∈ lw_all := lw_g (lw_at lw_m11 115 rfl) rfl
theorem q2665 : (Jvm.Cond.methodLink "CoinJudgeModel" (633 : Nat) ({ cls := "CoinJudgeModel", name := "locked", desc := "()V" } : Jvm.MethodName)) ∈ lw_all := lw_g (lw_at lw_m11 116 rfl) rfl
theorem q2666 : (Jvm.Cond.privateMethod ({ cls := "CoinJudgeModel", name := "locked", desc := "()V" } : Jvm.MethodName)) ∈ lw_tbl := lw_at lw_m11 117 rfl
theorem q2667 : (Jvm.Cond.instanceMethod ({ cls := "CoinJudgeModel", name := "locked", desc := "()V" } : Jvm.MethodName)) ∈ lw_all := lw_g (lw_at lw_m11 118 rfl) rfl
theorem q2668 : (Jvm.Cond.code ({ cls := "CoinJudgeModel", name := "locked", desc := "()V" } : Jvm.MethodName) prog_27_method_86_code (6 : Nat) (Option.none : Option Jvm.ClassFile.FieldType)) ∈ lw_all := lw_g (lw_at lw_m11 119 rfl) rfl
theorem q2669 : (Jvm.Cond.constantLong "CoinJudgeModel" (430 : Nat) (500000000 : Int64)) ∈ lw_all := lw_g (lw_at lw_m11 120 rfl) rfl
theorem q2670 : (Jvm.Cond.methodLink "CoinJudgeModel" (591 : Nat) ({ cls := "CoinJudgeModel", name := "move", desc := "(I)V" } : Jvm.MethodName)) ∈ lw_all := lw_g (lw_at lw_m11 121 rfl) rfl
theorem q2671 : (Jvm.Cond.privateMethod ({ cls := "CoinJudgeModel", name := "move", desc := "(I)V" } : Jvm.MethodName)) ∈ lw_tbl := lw_at lw_m11 122 rfl
theorem q2672 : (Jvm.Cond.instanceMethod ({ cls := "CoinJudgeModel", name := "move", desc := "(I)V" } : Jvm.MethodName)) ∈ lw_all := lw_g (lw_at lw_m11 123 rfl) rfl
theorem q2673 : (Jvm.Cond.code ({ cls := "CoinJudgeModel", name := "move", desc := "(I)V" } : Jvm.MethodName) prog_27_method_72_code (8 : Nat) (Option.none : Option Jvm.ClassFile.FieldType)) ∈ lw_all := lw_g (lw_at lw_m11 124 rfl) rfl
theorem q2674 : (Jvm.Cond.methodLink "CoinJudgeModel" (612 : Nat) ({ cls := "CoinJudgeModel", name := "copy", desc := "(I)V" } : Jvm.MethodName)) ∈ lw_all := lw_g (lw_at lw_m11 125 rfl) rfl
theorem q2675 : (Jvm.Cond.privateMethod ({ cls := "CoinJudgeModel", name := "copy", desc := "(I)V" } : Jvm.MethodName)) ∈ lw_tbl := lw_at lw_m11 126 rfl
theorem q2676 : (Jvm.Cond.instanceMethod ({ cls := "CoinJudgeModel", name := "copy", desc := "(I)V" } : Jvm.MethodName)) ∈ lw_all := lw_g (lw_at lw_m11 127 rfl) rfl
theorem q2677 : (Jvm.Cond.code ({ cls := "CoinJudgeModel", name := "copy", desc := "(I)V" } : Jvm.MethodName) prog_27_method_60_code (3 : Nat) (Option.none : Option Jvm.ClassFile.FieldType)) ∈ lw_all := lw_g (lw_at lw_m11 128 rfl) rfl
theorem q2678 : (Jvm.Cond.methodLink "CoinJudgeModel" (614 : Nat) ({ cls := "CoinJudgeModel", name := "lift", desc := "(I)V" } : Jvm.MethodName)) ∈ lw_all := lw_g (lw_at lw_m11 129 rfl) rfl
theorem q2679 : (Jvm.Cond.privateMethod ({ cls := "CoinJudgeModel", name := "lift", desc := "(I)V" } : Jvm.MethodName)) ∈ lw_tbl := lw_at lw_m11 130 rfl
theorem q2680 : (Jvm.Cond.instanceMethod ({ cls := "CoinJudgeModel", name := "lift", desc := "(I)V" } : Jvm.MethodName)) ∈ lw_all := lw_g (lw_at lw_m11 131 rfl) rfl
theorem q2681 : (Jvm.Cond.code ({ cls := "CoinJudgeModel", name := "lift", desc := "(I)V" } : Jvm.MethodName) prog_27_method_61_code (5 : Nat) (Option.none : Option Jvm.ClassFile.FieldType)) ∈ lw_all := lw_g (lw_at lw_m11 132 rfl) rfl
theorem q2682 : (Jvm.Cond.methodLink "CoinJudgeModel" (705 : Nat) ({ cls := "CoinJudgeModel", name := "keepStack", desc := "()V" } : Jvm.MethodName)) ∈ lw_all := lw_g (lw_at lw_m11 133 rfl) rfl
theorem q2683 : (Jvm.Cond.privateMethod ({ cls := "CoinJudgeModel", name := "keepStack", desc := "()V" } : Jvm.MethodName)) ∈ lw_tbl := lw_at lw_m11 134 rfl
theorem q2684 : (Jvm.Cond.instanceMethod ({ cls := "CoinJudgeModel", name := "keepStack", desc := "()V" } : Jvm.MethodName)) ∈ lw_all := lw_g (lw_at lw_m11 135 rfl) rfl
theorem q2685 : (Jvm.Cond.code ({ cls := "CoinJudgeModel", name := "keepStack", desc := "()V" } : Jvm.MethodName) prog_27_method_89_code (4 : Nat) (Option.none : Option Jvm.ClassFile.FieldType)) ∈ lw_all := lw_g (lw_at lw_m11 136 rfl) rfl
theorem q2686 : (Jvm.Cond.methodLink "CoinJudgeModel" (708 : Nat) ({ cls := "CoinJudgeModel", name := "isPushes", desc := "([BII)Z" } : Jvm.MethodName)) ∈ lw_all := lw_g (lw_at lw_m11 137 rfl) rfl
theorem q2687 : (Jvm.Cond.privateMethod ({ cls := "CoinJudgeModel", name := "isPushes", desc := "([BII)Z" } : Jvm.MethodName)) ∈ lw_tbl := lw_at lw_m11 138 rfl
theorem q2688 : (Jvm.Cond.instanceMethod ({ cls := "CoinJudgeModel", name := "isPushes", desc := "([BII)Z" } : Jvm.MethodName)) ∈ lw_all := lw_g (lw_at lw_m11 139 rfl) rfl
theorem q2689 : (Jvm.Cond.code ({ cls := "CoinJudgeModel", name := "isPushes", desc := "([BII)Z" } : Jvm.MethodName) prog_27_method_87_code (5 : Nat) (Option.some Jvm.ClassFile.FieldType.boolean)) ∈ lw_all := lw_g (lw_at lw_m11 140 rfl) rfl
theorem q2690 : (Jvm.Cond.methodLink "CoinJudgeModel" (481 : Nat) ({ cls := "CoinJudgeModel", name := "mark", desc := "(III)I" } : Jvm.MethodName)) ∈ lw_all := lw_g (lw_at lw_m11 141 rfl) rfl
theorem q2691 : (Jvm.Cond.static ({ cls := "CoinJudgeModel", name := "mark", desc := "(III)I" } : Jvm.MethodName)) ∈ lw_all := lw_g (lw_at lw_m11 142 rfl) rfl
theorem q2692 : (Jvm.Cond.code ({ cls := "CoinJudgeModel", name := "mark", desc := "(III)I" } : Jvm.MethodName) prog_27_method_36_code (3 : Nat) (Option.some Jvm.ClassFile.FieldType.int)) ∈ lw_all := lw_g (lw_at lw_m11 143 rfl) rfl
theorem q2693 : (Jvm.Cond.methodLink "CoinJudgeModel" (884 : Nat) ({ cls := "CoinJudgeModel", name := "take", desc := "()V" } : Jvm.MethodName)) ∈ lw_all := lw_g (lw_at lw_m11 144 rfl) rfl
theorem q2694 : (Jvm.Cond.privateMethod ({ cls := "CoinJudgeModel", name := "take", desc := "()V" } : Jvm.MethodName)) ∈ lw_tbl := lw_at lw_m11 145 rfl
theorem q2695 : (Jvm.Cond.instanceMethod ({ cls := "CoinJudgeModel", name := "take", desc := "()V" } : Jvm.MethodName)) ∈ lw_all := lw_g (lw_at lw_m11 146 rfl) rfl
theorem q2696 : (Jvm.Cond.code ({ cls := "CoinJudgeModel", name := "take", desc := "()V" } : Jvm.MethodName) prog_27_method_56_code (2 : Nat) (Option.none : Option Jvm.ClassFile.FieldType)) ∈ lw_all := lw_g (lw_at lw_m11 147 rfl) rfl
theorem q2697 : (Jvm.Cond.constantLong "CoinJudgeModel" (886 : Nat) (1000600 : Int64)) ∈ lw_all := lw_g (lw_at lw_m11 148 rfl) rfl
theorem q2698 : (Jvm.Cond.fieldLink "CoinJudgeModel" (34 : Nat) "CoinJudgeModel" "padded" "[B") ∈ lw_all := lw_g (lw_at lw_m11 149 rfl) rfl
theorem q2699 : (Jvm.Cond.fieldLink "CoinJudgeModel" (19 : Nat) "CoinJudgeModel" "state" "[I") ∈ lw_all := lw_g (lw_at lw_m11 150 rfl) rfl
theorem q2700 : (Jvm.Cond.fieldLink "CoinJudgeModel" (38 : Nat) "CoinJudgeModel" "words" "[I") ∈ lw_all := lw_g (lw_at lw_m11 151 rfl) rfl
theorem q2701 : (Jvm.Cond.fieldLink "CoinJudgeModel" (23 : Nat) "CoinJudgeModel" "shaStart" "[I") ∈ lw_all := lw_g (lw_at lw_m11 152 rfl) rfl
theorem q2702 : (Jvm.Cond.fieldLink "CoinJudgeModel" (48 : Nat) "CoinJudgeModel" "shaRound" "[I") ∈ lw_all := lw_g (lw_at lw_m11 153 rfl) rfl
theorem q2703 : (Jvm.Cond.fieldLink "CoinJudgeModel" (1 : Nat) "CoinJudgeModel" "once" "[J") ∈ lw_all := lw_g (lw_at lw_m11 154 rfl) rfl
theorem q2704 : (Jvm.Cond.fieldLink "CoinJudgeModel" (9 : Nat) "CoinJudgeModel" "square" "[J") ∈ lw_all := lw_g (lw_at lw_m11 155 rfl) rfl
theorem q2705 : (Jvm.Cond.fieldLink "CoinJudgeModel" (16 : Nat) "CoinJudgeModel" "cube" "[J") ∈ lw_all := lw_g (lw_at lw_m11 156 rfl) rfl
theorem q2706 : (Jvm.Cond.fieldLink "CoinJudgeModel" (45 : Nat) "CoinJudgeModel" "v" "[I") ∈ lw_all := lw_g (lw_at lw_m11 157 rfl) rfl
theorem q2707 : (Jvm.Cond.fieldLink "CoinJudgeModel" (74 : Nat) "CoinJudgeModel" "orders" "[I") ∈ lw_all := lw_g (lw_at lw_m11 158 rfl) rfl
theorem q2708 : (Jvm.Cond.fieldLink "CoinJudgeModel" (77 : Nat) "CoinJudgeModel" "turns" "[I") ∈ lw_all := lw_g (lw_at lw_m11 159 rfl) rfl
theorem q2709 : (Jvm.Cond.fieldLink "CoinJudgeModel" (67 : Nat) "CoinJudgeModel" "added" "[I") ∈ lw_all := lw_g (lw_at lw_m11 160 rfl) rfl
theorem q2710 : (Jvm.Cond.fieldLink "CoinJudgeModel" (61 : Nat) "CoinJudgeModel" "left" "[I") ∈ lw_all := lw_g (lw_at lw_m11 161 rfl) rfl
theorem q2711 : (Jvm.Cond.fieldLink "CoinJudgeModel" (64 : Nat) "CoinJudgeModel" "right" "[I") ∈ lw_all := lw_g (lw_at lw_m11 162 rfl) rfl
theorem q2712 : (Jvm.Cond.fieldLink "CoinJudgeModel" (80 : Nat) "CoinJudgeModel" "inner" "[B") ∈ lw_all := lw_g (lw_at lw_m11 163 rfl) rfl
theorem q2713 : (Jvm.Cond.fieldLink "CoinJudgeModel" (101 : Nat) "CoinJudgeModel" "field" "LCoinJudgeModel$Ring;") ∈ lw_all := lw_g (lw_at lw_m11 164 rfl) rfl
theorem q2714 : (Jvm.Cond.fieldLink "CoinJudgeModel" (192 : Nat) "CoinJudgeModel" "order" "LCoinJudgeModel$Ring;") ∈ lw_all := lw_g (lw_at lw_m11 165 rfl) rfl
theorem q2715 : (Jvm.Cond.fieldLink "CoinJudgeModel" (176 : Nat) "CoinJudgeModel" "seven" "[I") ∈ lw_all := lw_g (lw_at lw_m11 166 rfl) rfl
theorem q2716 : (Jvm.Cond.fieldLink "CoinJudgeModel" (225 : Nat) "CoinJudgeModel" "generator" "LCoinJudgeModel$Point;") ∈ lw_all := lw_g (lw_at lw_m11 167 rfl) rfl
theorem q2717 : (Jvm.Cond.fieldLink "CoinJudgeModel" (169 : Nat) "CoinJudgeModel" "key" "LCoinJudgeModel$Point;") ∈ lw_all := lw_g (lw_at lw_m11 168 rfl) rfl
theorem q2718 : (Jvm.Cond.fieldLink "CoinJudgeModel" (228 : Nat) "CoinJudgeModel" "sum" "LCoinJudgeModel$Point;") ∈ lw_all := lw_g (lw_at lw_m11 169 rfl) rfl
theorem q2719 : (Jvm.Cond.fieldLink "CoinJudgeModel" (234 : Nat) "CoinJudgeModel" "work" "LCoinJudgeModel$Point;") ∈ lw_all := lw_g (lw_at lw_m11 170 rfl) rfl
theorem q2720 : (Jvm.Cond.fieldLink "CoinJudgeModel" (108 : Nat) "CoinJudgeModel" "a" "[I") ∈ lw_all := lw_g (lw_at lw_m11 171 rfl) rfl
theorem q2721 : (Jvm.Cond.fieldLink "CoinJudgeModel" (118 : Nat) "CoinJudgeModel" "b" "[I") ∈ lw_all := lw_g (lw_at lw_m11 172 rfl) rfl
theorem q2722 : (Jvm.Cond.fieldLink "CoinJudgeModel" (124 : Nat) "CoinJudgeModel" "c" "[I") ∈ lw_all := lw_g (lw_at lw_m11 173 rfl) rfl
theorem q2723 : (Jvm.Cond.fieldLink "CoinJudgeModel" (127 : Nat) "CoinJudgeModel" "d" "[I") ∈ lw_all := lw_g (lw_at lw_m11 174 rfl) rfl
theorem q2724 : (Jvm.Cond.fieldLink "CoinJudgeModel" (130 : Nat) "CoinJudgeModel" "e" "[I") ∈ lw_all := lw_g (lw_at lw_m11 175 rfl) rfl
theorem q2725 : (Jvm.Cond.fieldLink "CoinJudgeModel" (785 : Nat) "CoinJudgeModel" "f" "[I") ∈ lw_all := lw_g (lw_at lw_m11 176 rfl) rfl
theorem q2726 : (Jvm.Cond.fieldLink "CoinJudgeModel" (155 : Nat) "CoinJudgeModel" "px" "[I") ∈ lw_all := lw_g (lw_at lw_m11 177 rfl) rfl
theorem q2727 : (Jvm.Cond.fieldLink "CoinJudgeModel" (185 : Nat) "CoinJudgeModel" "py" "[I") ∈ lw_all := lw_g (lw_at lw_m11 178 rfl) rfl
theorem q2728 : (Jvm.Cond.fieldLink "CoinJudgeModel" (203 : Nat) "CoinJudgeModel" "\x72" "[I") ∈ lw_all := lw_g (lw_at lw_m11 179 rfl) rfl
theorem q2729 : (Jvm.Cond.fieldLink "CoinJudgeModel" (210 : Nat) "CoinJudgeModel" "s" "[I") ∈ lw_all := lw_g (lw_at lw_m11 180 rfl) rfl
theorem q2730 : (Jvm.Cond.fieldLink "CoinJudgeModel" (216 : Nat) "CoinJudgeModel" "h" "[I") ∈ lw_all := lw_g (lw_at lw_m11 181 rfl) rfl
theorem q2731 : (Jvm.Cond.fieldLink "CoinJudgeModel" (219 : Nat) "CoinJudgeModel" "u1" "[I") ∈ lw_all := lw_g (lw_at lw_m11 182 rfl) rfl
theorem q2732 : (Jvm.Cond.fieldLink "CoinJudgeModel" (222 : Nat) "CoinJudgeModel" "u2" "[I") ∈ lw_all := lw_g (lw_at lw_m11 183 rfl) rfl
theorem q2733 : (Jvm.Cond.fieldLink "CoinJudgeModel" (213 : Nat) "CoinJudgeModel" "message" "[B") ∈ lw_all := lw_g (lw_at lw_m11 184 rfl) rfl
theorem q2734 : (Jvm.Cond.fieldLink "CoinJudgeModel" (252 : Nat) "CoinJudgeModel" "at" "I") ∈ lw_all := lw_g (lw_at lw_m11 185 rfl) rfl
theorem q2735 : (Jvm.Cond.fieldLink "CoinJudgeModel" (248 : Nat) "CoinJudgeModel" "limit" "I") ∈ lw_all := lw_g (lw_at lw_m11 186 rfl) rfl
theorem q2736 : (Jvm.Cond.fieldLink "CoinJudgeModel" (245 : Nat) "CoinJudgeModel" "text" "[B") ∈ lw_all := lw_g (lw_at lw_m11 187 rfl) rfl
theorem q2737 : (Jvm.Cond.fieldLink "CoinJudgeModel" (255 : Nat) "CoinJudgeModel" "broken" "Z") ∈ lw_all := lw_g (lw_at lw_m11 188 rfl) rfl
theorem q2738 : (Jvm.Cond.fieldLink "CoinJudgeModel" (325 : Nat) "CoinJudgeModel" "scriptAt" "I") ∈ lw_all := lw_g (lw_at lw_m11 189 rfl) rfl
theorem q2739 : (Jvm.Cond.fieldLink "CoinJudgeModel" (322 : Nat) "CoinJudgeModel" "scriptLength" "I") ∈ lw_all := lw_g (lw_at lw_m11 190 rfl) rfl
theorem q2740 : (Jvm.Cond.fieldLink "CoinJudgeModel" (387 : Nat) "CoinJudgeModel" "easiest" "[I") ∈ lw_all := lw_g (lw_at lw_m11 191 rfl) rfl
theorem q2741 : (Jvm.Cond.fieldLink "CoinJudgeModel" (342 : Nat) "CoinJudgeModel" "goal" "[I") ∈ lw_all := lw_g (lw_at lw_m11 192 rfl) rfl
theorem q2742 : (Jvm.Cond.fieldLink "CoinJudgeModel" (338 : Nat) "CoinJudgeModel" "one" "[I") ∈ lw_all := lw_g (lw_at lw_m11 193 rfl) rfl
theorem q2743 : (Jvm.Cond.fieldLink "CoinJudgeModel" (339 : Nat) "CoinJudgeModel" "rest" "[I") ∈ lw_all := lw_g (lw_at lw_m11 194 rfl) rfl
theorem q2744 : (Jvm.Cond.fieldLink "CoinJudgeModel" (347 : Nat) "CoinJudgeModel" "blocks" "[LCoinJudgeModel$Block;") ∈ lw_all := lw_g (lw_at lw_m11 195 rfl) rfl
theorem q2745 : (Jvm.Cond.fieldLink "CoinJudgeModel" (403 : Nat) "CoinJudgeModel" "kept" "I") ∈ lw_all := lw_g (lw_at lw_m11 196 rfl) rfl
theorem q2746 : (Jvm.Cond.fieldLink "CoinJudgeModel" (881 : Nat) "CoinJudgeModel" "best" "I") ∈ lw_all := lw_g (lw_at lw_m11 197 rfl) rfl
theorem q2747 : (Jvm.Cond.fieldLink "CoinJudgeModel" (500 : Nat) "CoinJudgeModel" "coins" "[I") ∈ lw_all := lw_g (lw_at lw_m11 198 rfl) rfl
theorem q2748 : (Jvm.Cond.fieldLink "CoinJudgeModel" (497 : Nat) "CoinJudgeModel" "coinCount" "I") ∈ lw_all := lw_g (lw_at lw_m11 199 rfl) rfl
theorem q2749 : (Jvm.Cond.fieldLink "CoinJudgeModel" (461 : Nat) "CoinJudgeModel" "trial" "[I") ∈ lw_all := lw_g (lw_at lw_m11 200 rfl) rfl
theorem q2750 : (Jvm.Cond.fieldLink "CoinJudgeModel" (464 : Nat) "CoinJudgeModel" "trialCount" "I") ∈ lw_all := lw_g (lw_at lw_m11 201 rfl) rfl
theorem q2751 : (Jvm.Cond.fieldLink "CoinJudgeModel" (361 : Nat) "CoinJudgeModel" "times" "[J") ∈ lw_all := lw_g (lw_at lw_m11 202 rfl) rfl
theorem q2752 : (Jvm.Cond.fieldLink "CoinJudgeModel" (382 : Nat) "CoinJudgeModel" "wide" "[I") ∈ lw_all := lw_g (lw_at lw_m11 203 rfl) rfl
theorem q2753 : (Jvm.Cond.fieldLink "CoinJudgeModel" (926 : Nat) "CoinJudgeModel" "reason" "I") ∈ lw_all := lw_g (lw_at lw_m11 204 rfl) rfl
theorem q2754 : (Jvm.Cond.fieldLink "CoinJudgeModel" (789 : Nat) "CoinJudgeModel" "judged" "LCoinJudgeModel$Parsed;") ∈ lw_all := lw_g (lw_at lw_m11 205 rfl) rfl
theorem q2755 : (Jvm.Cond.fieldLink "CoinJudgeModel" (792 : Nat) "CoinJudgeModel" "judgedHash" "[B") ∈ lw_all := lw_g (lw_at lw_m11 206 rfl) rfl
theorem q2756 : (Jvm.Cond.fieldLink "CoinJudgeModel" (397 : Nat) "CoinJudgeModel" "tree" "[B") ∈ lw_all := lw_g (lw_at lw_m11 207 rfl) rfl
theorem q2757 : (Jvm.Cond.fieldLink "CoinJudgeModel" (400 : Nat) "CoinJudgeModel" "both" "[B") ∈ lw_all := lw_g (lw_at lw_m11 208 rfl) rfl
theorem q2758 : (Jvm.Cond.fieldLink "CoinJudgeModel" (394 : Nat) "CoinJudgeModel" "root" "[B") ∈ lw_all := lw_g (lw_at lw_m11 209 rfl) rfl
theorem q2759 : (Jvm.Cond.fieldLink "CoinJudgeModel" (514 : Nat) "CoinJudgeModel" "aim" "[I") ∈ lw_all := lw_g (lw_at lw_m11 210 rfl) rfl
theorem q2760 : (Jvm.Cond.fieldLink "CoinJudgeModel" (795 : Nat) "CoinJudgeModel" "found" "[I") ∈ lw_all := lw_g (lw_at lw_m11 211 rfl) rfl
theorem q2761 : (Jvm.Cond.fieldLink "CoinJudgeModel" (427 : Nat) "CoinJudgeModel" "pushed" "I") ∈ lw_all := lw_g (lw_at lw_m11 212 rfl) rfl
theorem q2762 : (Jvm.Cond.fieldLink "CoinJudgeModel" (487 : Nat) "CoinJudgeModel" "path" "[I") ∈ lw_all := lw_g (lw_at lw_m11 213 rfl) rfl
theorem q2763 : (Jvm.Cond.fieldLink "CoinJudgeModel" (527 : Nat) "CoinJudgeModel" "stack" "[[B") ∈ lw_all := lw_g (lw_at lw_m11 214 rfl) rfl
theorem q2764 : (Jvm.Cond.fieldLink "CoinJudgeModel" (535 : Nat) "CoinJudgeModel" "sizes" "[I") ∈ lw_all := lw_g (lw_at lw_m11 215 rfl) rfl
theorem q2765 : (Jvm.Cond.fieldLink "CoinJudgeModel" (521 : Nat) "CoinJudgeModel" "top" "I") ∈ lw_all := lw_g (lw_at lw_m11 216 rfl) rfl
theorem q2766 : (Jvm.Cond.fieldLink "CoinJudgeModel" (606 : Nat) "CoinJudgeModel" "others" "[[B") ∈ lw_all := lw_g (lw_at lw_m11 217 rfl) rfl
theorem q2767 : (Jvm.Cond.fieldLink "CoinJudgeModel" (609 : Nat) "CoinJudgeModel" "otherSizes" "[I") ∈ lw_all := lw_g (lw_at lw_m11 218 rfl) rfl
theorem q2768 : (Jvm.Cond.fieldLink "CoinJudgeModel" (560 : Nat) "CoinJudgeModel" "otherTop" "I") ∈ lw_all := lw_g (lw_at lw_m11 219 rfl) rfl
theorem q2769 : (Jvm.Cond.fieldLink "CoinJudgeModel" (714 : Nat) "CoinJudgeModel" "saved" "[[B") ∈ lw_all := lw_g (lw_at lw_m11 220 rfl) rfl
theorem q2770 : (Jvm.Cond.fieldLink "CoinJudgeModel" (717 : Nat) "CoinJudgeModel" "savedSizes" "[I") ∈ lw_all := lw_g (lw_at lw_m11 221 rfl) rfl
theorem q2771 : (Jvm.Cond.fieldLink "CoinJudgeModel" (711 : Nat) "CoinJudgeModel" "savedTop" "I") ∈ lw_all := lw_g (lw_at lw_m11 222 rfl) rfl
theorem q2772 : (Jvm.Cond.fieldLink "CoinJudgeModel" (524 : Nat) "CoinJudgeModel" "failed" "Z") ∈ lw_all := lw_g (lw_at lw_m11 223 rfl) rfl
theorem q2773 : (Jvm.Cond.fieldLink "CoinJudgeModel" (542 : Nat) "CoinJudgeModel" "small" "[B") ∈ lw_all := lw_g (lw_at lw_m11 224 rfl) rfl
theorem q2774 : (Jvm.Cond.fieldLink "CoinJudgeModel" (673 : Nat) "CoinJudgeModel" "inBlock" "LCoinJudgeModel$Parsed;") ∈ lw_all := lw_g (lw_at lw_m11 225 rfl) rfl
theorem q2775 : (Jvm.Cond.fieldLink "CoinJudgeModel" (676 : Nat) "CoinJudgeModel" "inTx" "I") ∈ lw_all := lw_g (lw_at lw_m11 226 rfl) rfl
theorem q2776 : (Jvm.Cond.fieldLink "CoinJudgeModel" (679 : Nat) "CoinJudgeModel" "inInput" "I") ∈ lw_all := lw_g (lw_at lw_m11 227 rfl) rfl
theorem q2777 : (Jvm.Cond.fieldLink "CoinJudgeModel" (548 : Nat) "CoinJudgeModel" "code" "[B") ∈ lw_all := lw_g (lw_at lw_m11 228 rfl) rfl
theorem q2778 : (Jvm.Cond.fieldLink "CoinJudgeModel" (551 : Nat) "CoinJudgeModel" "codeFrom" "I") ∈ lw_all := lw_g (lw_at lw_m11 229 rfl) rfl
theorem q2779 : (Jvm.Cond.fieldLink "CoinJudgeModel" (554 : Nat) "CoinJudgeModel" "codeEnd" "I") ∈ lw_all := lw_g (lw_at lw_m11 230 rfl) rfl
theorem q2780 : (Jvm.Cond.fieldLink "CoinJudgeModel" (557 : Nat) "CoinJudgeModel" "operations" "I") ∈ lw_all := lw_g (lw_at lw_m11 231 rfl) rfl
theorem q2781 : (Jvm.Cond.fieldLink "CoinJudgeModel" (570 : Nat) "CoinJudgeModel" "conditions" "[Z") ∈ lw_all := lw_g (lw_at lw_m11 232 rfl) rfl
theorem q2782 : (Jvm.Cond.fieldLink "CoinJudgeModel" (563 : Nat) "CoinJudgeModel" "open" "I") ∈ lw_all := lw_g (lw_at lw_m11 233 rfl) rfl
theorem q2783 : (Jvm.Cond.fieldLink "CoinJudgeModel" (603 : Nat) "CoinJudgeModel" "needed" "[I") ∈ lw_all := lw_g (lw_at lw_m11 234 rfl) rfl
theorem q2784 : (Jvm.Cond.fieldLink "CoinJudgeModel" (636 : Nat) "CoinJudgeModel" "digest" "[B") ∈ lw_all := lw_g (lw_at lw_m11 235 rfl) rfl
theorem q2785 : (Jvm.Cond.fieldLink "CoinJudgeModel" (645 : Nat) "CoinJudgeModel" "cut" "[B") ∈ lw_all := lw_g (lw_at lw_m11 236 rfl) rfl
theorem q2786 : (Jvm.Cond.fieldLink "CoinJudgeModel" (648 : Nat) "CoinJudgeModel" "less" "[B") ∈ lw_all := lw_g (lw_at lw_m11 237 rfl) rfl
theorem q2787 : (Jvm.Cond.fieldLink "CoinJudgeModel" (642 : Nat) "CoinJudgeModel" "cutLength" "I") ∈ lw_all := lw_g (lw_at lw_m11 238 rfl) rfl
theorem q2788 : (Jvm.Cond.fieldLink "CoinJudgeModel" (650 : Nat) "CoinJudgeModel" "signed" "[B") ∈ lw_all := lw_g (lw_at lw_m11 239 rfl) rfl
theorem q2789 : (Jvm.Cond.fieldLink "CoinJudgeModel" (653 : Nat) "CoinJudgeModel" "signedLength" "I") ∈ lw_all := lw_g (lw_at lw_m12 0 rfl) rfl
theorem q2790 : (Jvm.Cond.fieldLink "CoinJudgeModel" (859 : Nat) "CoinJudgeModel" "draftParent" "I") ∈ lw_all := lw_g (lw_at lw_m12 1 rfl) rfl
theorem q2791 : (Jvm.Cond.fieldLink "CoinJudgeModel" (855 : Nat) "CoinJudgeModel" "draftTime" "J") ∈ lw_all := lw_g (lw_at lw_m12 2 rfl) rfl
theorem q2792 : (Jvm.Cond.fieldLink "CoinJudgeModel" (865 : Nat) "CoinJudgeModel" "txs" "I") ∈ lw_all := lw_g (lw_at lw_m12 3 rfl) rfl
theorem q2793 : (Jvm.Cond.fieldLink "CoinJudgeModel" (729 : Nat) "CoinJudgeModel" "versions" "[J") ∈ lw_all := lw_g (lw_at lw_m12 4 rfl) rfl
theorem q2794 : (Jvm.Cond.fieldLink "CoinJudgeModel" (764 : Nat) "CoinJudgeModel" "locks" "[J") ∈ lw_all := lw_g (lw_at lw_m12 5 rfl) rfl
theorem q2795 : (Jvm.Cond.fieldLink "CoinJudgeModel" (732 : Nat) "CoinJudgeModel" "inputs" "[I") ∈ lw_all := lw_g (lw_at lw_m12 6 rfl) rfl
theorem q2796 : (Jvm.Cond.fieldLink "CoinJudgeModel" (752 : Nat) "CoinJudgeModel" "outputs" "[I") ∈ lw_all := lw_g (lw_at lw_m12 7 rfl) rfl
theorem q2797 : (Jvm.Cond.fieldLink "CoinJudgeModel" (738 : Nat) "CoinJudgeModel" "inIds" "[B") ∈ lw_all := lw_g (lw_at lw_m12 8 rfl) rfl
theorem q2798 : (Jvm.Cond.fieldLink "CoinJudgeModel" (749 : Nat) "CoinJudgeModel" "sequences" "[J") ∈ lw_all := lw_g (lw_at lw_m12 9 rfl) rfl
theorem q2799 : (Jvm.Cond.fieldLink "CoinJudgeModel" (746 : Nat) "CoinJudgeModel" "inScripts" "[[B") ∈ lw_all := lw_g (lw_at lw_m12 10 rfl) rfl
theorem q2800 : (Jvm.Cond.fieldLink "CoinJudgeModel" (743 : Nat) "CoinJudgeModel" "inLengths" "[I") ∈ lw_all := lw_g (lw_at lw_m12 11 rfl) rfl
theorem q2801 : (Jvm.Cond.fieldLink "CoinJudgeModel" (755 : Nat) "CoinJudgeModel" "values" "[J") ∈ lw_all := lw_g (lw_at lw_m12 12 rfl) rfl
theorem q2802 : (Jvm.Cond.fieldLink "CoinJudgeModel" (761 : Nat) "CoinJudgeModel" "outScripts" "[[B") ∈ lw_all := lw_g (lw_at lw_m12 13 rfl) rfl
theorem q2803 : (Jvm.Cond.fieldLink "CoinJudgeModel" (758 : Nat) "CoinJudgeModel" "outLengths" "[I") ∈ lw_all := lw_g (lw_at lw_m12 14 rfl) rfl
theorem q2804 : (Jvm.Cond.fieldLink "CoinJudgeModel" (720 : Nat) "CoinJudgeModel" "made" "[B") ∈ lw_all := lw_g (lw_at lw_m12 15 rfl) rfl
theorem q2805 : (Jvm.Cond.fieldLink "CoinJudgeModel" (723 : Nat) "CoinJudgeModel" "madeLength" "I") ∈ lw_all := lw_g (lw_at lw_m12 16 rfl) rfl
theorem q2806 : (Jvm.Cond.fieldLink "CoinJudgeModel" (770 : Nat) "CoinJudgeModel" "draftIds" "[B") ∈ lw_all := lw_g (lw_at lw_m12 17 rfl) rfl
theorem q2807 : (Jvm.Cond.fieldLink "CoinJudgeModel" (801 : Nat) "CoinJudgeModel" "tape" "[B") ∈ lw_all := lw_g (lw_at lw_m12 18 rfl) rfl
theorem q2808 : (Jvm.Cond.fieldLink "CoinJudgeModel" (862 : Nat) "CoinJudgeModel" "taped" "I") ∈ lw_all := lw_g (lw_at lw_m12 19 rfl) rfl
theorem q2809 : (Jvm.Cond.fieldLink "CoinJudgeModel" (888 : Nat) "CoinJudgeModel" "code1" "I") ∈ lw_all := lw_g (lw_at lw_m12 20 rfl) rfl
theorem q2810 : (Jvm.Cond.fieldLink "CoinJudgeModel" (804 : Nat) "CoinJudgeModel" "least" "[I") ∈ lw_all := lw_g (lw_at lw_m12 21 rfl) rfl
theorem q2811 : (Jvm.Cond.fieldLink "CoinJudgeModel" (807 : Nat) "CoinJudgeModel" "keyBytes" "[B") ∈ lw_all := lw_g (lw_at lw_m12 22 rfl) rfl
theorem q2812 : (Jvm.Cond.fieldLink "CoinJudgeModel" (810 : Nat) "CoinJudgeModel" "draft" "LCoinJudgeModel$Parsed;") ∈ lw_all := lw_g (lw_at lw_m12 23 rfl) rfl
theorem q2813 : (Jvm.Cond.fieldLink "CoinJudgeModel" (813 : Nat) "CoinJudgeModel" "signature" "[B") ∈ lw_all := lw_g (lw_at lw_m12 24 rfl) rfl
theorem q2814 : (Jvm.Cond.fieldLink "CoinJudgeModel" (918 : Nat) "CoinJudgeModel" "signatureLength" "I") ∈ lw_all := lw_g (lw_at lw_m12 25 rfl) rfl
theorem q2815 : (Jvm.Cond.fieldLink "CoinJudgeModel" (816 : Nat) "CoinJudgeModel" "small32" "[B") ∈ lw_all := lw_g (lw_at lw_m12 26 rfl) rfl
theorem q2816 : (Jvm.Cond.fieldLink "CoinJudgeModel" (819 : Nat) "CoinJudgeModel" "seed" "[B") ∈ lw_all := lw_g (lw_at lw_m12 27 rfl) rfl
theorem q2817 : (Jvm.Cond.laysFinal "CoinJudgeModel" "CoinJudgeModel" "padded" "[B") ∈ lw_all := lw_g (lw_at lw_m12 28 rfl) rfl
theorem q2818 : (Jvm.Cond.soleField "CoinJudgeModel" "padded") ∈ lw_all := lw_g (lw_at lw_m12 29 rfl) rfl
theorem q2819 : (Jvm.Cond.laysFinal "CoinJudgeModel" "CoinJudgeModel" "state" "[I") ∈ lw_all := lw_g (lw_at lw_m12 30 rfl) rfl
theorem q2820 : (Jvm.Cond.soleField "CoinJudgeModel" "state") ∈ lw_all := lw_g (lw_at lw_m12 31 rfl) rfl
theorem q2821 : (Jvm.Cond.laysFinal "CoinJudgeModel" "CoinJudgeModel" "words" "[I") ∈ lw_all := lw_g (lw_at lw_m12 32 rfl) rfl
theorem q2822 : (Jvm.Cond.soleField "CoinJudgeModel" "words") ∈ lw_all := lw_g (lw_at lw_m12 33 rfl) rfl
theorem q2823 : (Jvm.Cond.laysFinal "CoinJudgeModel" "CoinJudgeModel" "shaStart" "[I") ∈ lw_all := lw_g (lw_at lw_m12 34 rfl) rfl
theorem q2824 : (Jvm.Cond.soleField "CoinJudgeModel" "shaStart") ∈ lw_all := lw_g (lw_at lw_m12 35 rfl) rfl
theorem q2825 : (Jvm.Cond.laysFinal "CoinJudgeModel" "CoinJudgeModel" "shaRound" "[I") ∈ lw_all := lw_g (lw_at lw_m12 36 rfl) rfl
theorem q2826 : (Jvm.Cond.soleField "CoinJudgeModel" "shaRound") ∈ lw_all := lw_g (lw_at lw_m12 37 rfl) rfl
theorem q2827 : (Jvm.Cond.laysFinal "CoinJudgeModel" "CoinJudgeModel" "once" "[J") ∈ lw_all := lw_g (lw_at lw_m12 38 rfl) rfl
theorem q2828 : (Jvm.Cond.soleField "CoinJudgeModel" "once") ∈ lw_all := lw_g (lw_at lw_m12 39 rfl) rfl
theorem q2829 : (Jvm.Cond.laysFinal "CoinJudgeModel" "CoinJudgeModel" "square" "[J") ∈ lw_all := lw_g (lw_at lw_m12 40 rfl) rfl
theorem q2830 : (Jvm.Cond.soleField "CoinJudgeModel" "square") ∈ lw_all := lw_g (lw_at lw_m12 41 rfl) rfl
theorem q2831 : (Jvm.Cond.laysFinal "CoinJudgeModel" "CoinJudgeModel" "cube" "[J") ∈ lw_all := lw_g (lw_at lw_m12 42 rfl) rfl
theorem q2832 : (Jvm.Cond.soleField "CoinJudgeModel" "cube") ∈ lw_all := lw_g (lw_at lw_m12 43 rfl) rfl
theorem q2833 : (Jvm.Cond.laysFinal "CoinJudgeModel" "CoinJudgeModel" "v" "[I") ∈ lw_all := lw_g (lw_at lw_m12 44 rfl) rfl
theorem q2834 : (Jvm.Cond.soleField "CoinJudgeModel" "v") ∈ lw_all := lw_g (lw_at lw_m12 45 rfl) rfl
theorem q2835 : (Jvm.Cond.laysFinal "CoinJudgeModel" "CoinJudgeModel" "orders" "[I") ∈ lw_all := lw_g (lw_at lw_m12 46 rfl) rfl
theorem q2836 : (Jvm.Cond.soleField "CoinJudgeModel" "orders") ∈ lw_all := lw_g (lw_at lw_m12 47 rfl) rfl
theorem q2837 : (Jvm.Cond.laysFinal "CoinJudgeModel" "CoinJudgeModel" "turns" "[I") ∈ lw_all := lw_g (lw_at lw_m12 48 rfl) rfl
theorem q2838 : (Jvm.Cond.soleField "CoinJudgeModel" "turns") ∈ lw_all := lw_g (lw_at lw_m12 49 rfl) rfl
theorem q2839 : (Jvm.Cond.laysFinal "CoinJudgeModel" "CoinJudgeModel" "added" "[I") ∈ lw_all := lw_g (lw_at lw_m12 50 rfl) rfl
theorem q2840 : (Jvm.Cond.soleField "CoinJudgeModel" "added") ∈ lw_all := lw_g (lw_at lw_m12 51 rfl) rfl
theorem q2841 : (Jvm.Cond.laysFinal "CoinJudgeModel" "CoinJudgeModel" "left" "[I") ∈ lw_all := lw_g (lw_at lw_m12 52 rfl) rfl
theorem q2842 : (Jvm.Cond.soleField "CoinJudgeModel" "left") ∈ lw_all := lw_g (lw_at lw_m12 53 rfl) rfl
theorem q2843 : (Jvm.Cond.laysFinal "CoinJudgeModel" "CoinJudgeModel" "right" "[I") ∈ lw_all := lw_g (lw_at lw_m12 54 rfl) rfl
theorem q2844 : (Jvm.Cond.soleField "CoinJudgeModel" "right") ∈ lw_all := lw_g (lw_at lw_m12 55 rfl) rfl
theorem q2845 : (Jvm.Cond.laysFinal "CoinJudgeModel" "CoinJudgeModel" "inner" "[B") ∈ lw_all := lw_g (lw_at lw_m12 56 rfl) rfl
theorem q2846 : (Jvm.Cond.soleField "CoinJudgeModel" "inner") ∈ lw_all := lw_g (lw_at lw_m12 57 rfl) rfl
theorem q2847 : (Jvm.Cond.laysFinal "CoinJudgeModel" "CoinJudgeModel" "field" "LCoinJudgeModel$Ring;") ∈ lw_all := lw_g (lw_at lw_m12 58 rfl) rfl
theorem q2848 : (Jvm.Cond.soleField "CoinJudgeModel" "field") ∈ lw_all := lw_g (lw_at lw_m12 59 rfl) rfl
theorem q2849 : (Jvm.Cond.laysFinal "CoinJudgeModel" "CoinJudgeModel" "order" "LCoinJudgeModel$Ring;") ∈ lw_all := lw_g (lw_at lw_m12 60 rfl) rfl
theorem q2850 : (Jvm.Cond.soleField "CoinJudgeModel" "order") ∈ lw_all := lw_g (lw_at lw_m12 61 rfl) rfl
theorem q2851 : (Jvm.Cond.laysFinal "CoinJudgeModel" "CoinJudgeModel" "seven" "[I") ∈ lw_all := lw_g (lw_at lw_m12 62 rfl) rfl
theorem q2852 : (Jvm.Cond.soleField "CoinJudgeModel" "seven") ∈ lw_all := lw_g (lw_at lw_m12 63 rfl) rfl
theorem q2853 : (Jvm.Cond.laysFinal "CoinJudgeModel" "CoinJudgeModel" "generator" "LCoinJudgeModel$Point;") ∈ lw_all := lw_g (lw_at lw_m12 64 rfl) rfl
theorem q2854 : (Jvm.Cond.soleField "CoinJudgeModel" "generator") ∈ lw_all := lw_g (lw_at lw_m12 65 rfl) rfl
theorem q2855 : (Jvm.Cond.laysFinal "CoinJudgeModel" "CoinJudgeModel" "key" "LCoinJudgeModel$Point;") ∈ lw_all := lw_g (lw_at lw_m12 66 rfl) rfl
theorem q2856 : (Jvm.Cond.soleField "CoinJudgeModel" "key") ∈ lw_all := lw_g (lw_at lw_m12 67 rfl) rfl
theorem q2857 : (Jvm.Cond.laysFinal "CoinJudgeModel" "CoinJudgeModel" "sum" "LCoinJudgeModel$Point;") ∈ lw_all := lw_g (lw_at lw_m12 68 rfl) rfl
theorem q2858 : (Jvm.Cond.soleField "CoinJudgeModel" "sum") ∈ lw_all := lw_g (lw_at lw_m12 69 rfl) rfl
theorem q2859 : (Jvm.Cond.laysFinal "CoinJudgeModel" "CoinJudgeModel" "work" "LCoinJudgeModel$Point;") ∈ lw_all := lw_g (lw_at lw_m12 70 rfl) rfl
theorem q2860 : (Jvm.Cond.soleField "CoinJudgeModel" "work") ∈ lw_all := lw_g (lw_at lw_m12 71 rfl) rfl
theorem q2861 : (Jvm.Cond.laysFinal "CoinJudgeModel" "CoinJudgeModel" "a" "[I") ∈ lw_all := lw_g (lw_at lw_m12 72 rfl) rfl
theorem q2862 : (Jvm.Cond.soleField "CoinJudgeModel" "a") ∈ lw_all := lw_g (lw_at lw_m12 73 rfl) rfl
theorem q2863 : (Jvm.Cond.laysFinal "CoinJudgeModel" "CoinJudgeModel" "b" "[I") ∈ lw_all := lw_g (lw_at lw_m12 74 rfl) rfl
theorem q2864 : (Jvm.Cond.soleField "CoinJudgeModel" "b") ∈ lw_all := lw_g (lw_at lw_m12 75 rfl) rfl
theorem q2865 : (Jvm.Cond.laysFinal "CoinJudgeModel" "CoinJudgeModel" "c" "[I") ∈ lw_all := lw_g (lw_at lw_m12 76 rfl) rfl
theorem q2866 : (Jvm.Cond.soleField "CoinJudgeModel" "c") ∈ lw_all := lw_g (lw_at lw_m12 77 rfl) rfl
theorem q2867 : (Jvm.Cond.laysFinal "CoinJudgeModel" "CoinJudgeModel" "d" "[I") ∈ lw_all := lw_g (lw_at lw_m12 78 rfl) rfl
theorem q2868 : (Jvm.Cond.soleField "CoinJudgeModel" "d") ∈ lw_all := lw_g (lw_at lw_m12 79 rfl) rfl
theorem q2869 : (Jvm.Cond.laysFinal "CoinJudgeModel" "CoinJudgeModel" "e" "[I") ∈ lw_all := lw_g (lw_at lw_m12 80 rfl) rfl
theorem q2870 : (Jvm.Cond.soleField "CoinJudgeModel" "e") ∈ lw_all := lw_g (lw_at lw_m12 81 rfl) rfl
theorem q2871 : (Jvm.Cond.laysFinal "CoinJudgeModel" "CoinJudgeModel" "f" "[I") ∈ lw_all := lw_g (lw_at lw_m12 82 rfl) rfl
theorem q2872 : (Jvm.Cond.soleField "CoinJudgeModel" "f") ∈ lw_all := lw_g (lw_at lw_m12 83 rfl) rfl
theorem q2873 : (Jvm.Cond.laysFinal "CoinJudgeModel" "CoinJudgeModel" "px" "[I") ∈ lw_all := lw_g (lw_at lw_m12 84 rfl) rfl
theorem q2874 : (Jvm.Cond.soleField "CoinJudgeModel" "px") ∈ lw_all := lw_g (lw_at lw_m12 85 rfl) rfl
theorem q2875 : (Jvm.Cond.laysFinal "CoinJudgeModel" "CoinJudgeModel" "py" "[I") ∈ lw_all := lw_g (lw_at lw_m12 86 rfl) rfl
theorem q2876 : (Jvm.Cond.soleField "CoinJudgeModel" "py") ∈ lw_all := lw_g (lw_at lw_m12 87 rfl) rfl
theorem q2877 : (Jvm.Cond.laysFinal "CoinJudgeModel" "CoinJudgeModel" "\x72" "[I") ∈ lw_all := lw_g (lw_at lw_m12 88 rfl) rfl
theorem q2878 : (Jvm.Cond.soleField "CoinJudgeModel" "\x72") ∈ lw_all := lw_g (lw_at lw_m12 89 rfl) rfl
theorem q2879 : (Jvm.Cond.laysFinal "CoinJudgeModel" "CoinJudgeModel" "s" "[I") ∈ lw_all := lw_g (lw_at lw_m12 90 rfl) rfl
theorem q2880 : (Jvm.Cond.soleField "CoinJudgeModel" "s") ∈ lw_all := lw_g (lw_at lw_m12 91 rfl) rfl
theorem q2881 : (Jvm.Cond.laysFinal "CoinJudgeModel" "CoinJudgeModel" "h" "[I") ∈ lw_all := lw_g (lw_at lw_m12 92 rfl) rfl
theorem q2882 : (Jvm.Cond.soleField "CoinJudgeModel" "h") ∈ lw_all := lw_g (lw_at lw_m12 93 rfl) rfl
theorem q2883 : (Jvm.Cond.laysFinal "CoinJudgeModel" "CoinJudgeModel" "u1" "[I") ∈ lw_all := lw_g (lw_at lw_m12 94 rfl) rfl
theorem q2884 : (Jvm.Cond.soleField "CoinJudgeModel" "u1") ∈ lw_all := lw_g (lw_at lw_m12 95 rfl) rfl
theorem q2885 : (Jvm.Cond.laysFinal "CoinJudgeModel" "CoinJudgeModel" "u2" "[I") ∈ lw_all := lw_g (lw_at lw_m12 96 rfl) rfl
theorem q2886 : (Jvm.Cond.soleField "CoinJudgeModel" "u2") ∈ lw_all := lw_g (lw_at lw_m12 97 rfl) rfl
theorem q2887 : (Jvm.Cond.laysFinal "CoinJudgeModel" "CoinJudgeModel" "message" "[B") ∈ lw_all := lw_g (lw_at lw_m12 98 rfl) rfl
theorem q2888 : (Jvm.Cond.soleField "CoinJudgeModel" "message") ∈ lw_all := lw_g (lw_at lw_m12 99 rfl) rfl
theorem q2889 : (Jvm.Cond.lays "CoinJudgeModel" "CoinJudgeModel" "at" "I") ∈ lw_all := lw_g (lw_at lw_m12 100 rfl) rfl
theorem q2890 : (Jvm.Cond.soleField "CoinJudgeModel" "at") ∈ lw_all := lw_g (lw_at lw_m12 101 rfl) rfl
theorem q2891 : (Jvm.Cond.lays "CoinJudgeModel" "CoinJudgeModel" "limit" "I") ∈ lw_all := lw_g (lw_at lw_m12 102 rfl) rfl
theorem q2892 : (Jvm.Cond.soleField "CoinJudgeModel" "limit") ∈ lw_all := lw_g (lw_at lw_m12 103 rfl) rfl
theorem q2893 : (Jvm.Cond.lays "CoinJudgeModel" "CoinJudgeModel" "text" "[B") ∈ lw_all := lw_g (lw_at lw_m12 104 rfl) rfl
theorem q2894 : (Jvm.Cond.soleField "CoinJudgeModel" "text") ∈ lw_all := lw_g (lw_at lw_m12 105 rfl) rfl
theorem q2895 : (Jvm.Cond.lays "CoinJudgeModel" "CoinJudgeModel" "broken" "Z") ∈ lw_all := lw_g (lw_at lw_m12 106 rfl) rfl
theorem q2896 : (Jvm.Cond.soleField "CoinJudgeModel" "broken") ∈ lw_all := lw_g (lw_at lw_m12 107 rfl) rfl
theorem q2897 : (Jvm.Cond.lays "CoinJudgeModel" "CoinJudgeModel" "scriptAt" "I") ∈ lw_all := lw_g (lw_at lw_m12 108 rfl) rfl
theorem q2898 : (Jvm.Cond.soleField "CoinJudgeModel" "scriptAt") ∈ lw_all := lw_g (lw_at lw_m12 109 rfl) rfl
theorem q2899 : (Jvm.Cond.lays "CoinJudgeModel" "CoinJudgeModel" "scriptLength" "I") ∈ lw_all := lw_g (lw_at lw_m12 110 rfl) rfl
theorem q2900 : (Jvm.Cond.soleField "CoinJudgeModel" "scriptLength") ∈ lw_all := lw_g (lw_at lw_m12 111 rfl) rfl
theorem q2901 : (Jvm.Cond.laysFinal "CoinJudgeModel" "CoinJudgeModel" "easiest" "[I") ∈ lw_all := lw_g (lw_at lw_m12 112 rfl) rfl
theorem q2902 : (Jvm.Cond.soleField "CoinJudgeModel" "easiest") ∈ lw_all := lw_g (lw_at lw_m12 113 rfl) rfl
theorem q2903 : (Jvm.Cond.laysFinal "CoinJudgeModel" "CoinJudgeModel" "goal" "[I") ∈ lw_all := lw_g (lw_at lw_m12 114 rfl) rfl
theorem q2904 : (Jvm.Cond.soleField "CoinJudgeModel" "goal") ∈ lw_all := lw_g (lw_at lw_m12 115 rfl) rfl
theorem q2905 : (Jvm.Cond.laysFinal "CoinJudgeModel" "CoinJudgeModel" "one" "[I") ∈ lw_all := lw_g (lw_at lw_m12 116 rfl) rfl
theorem q2906 : (Jvm.Cond.soleField "CoinJudgeModel" "one") ∈ lw_all := lw_g (lw_at lw_m12 117 rfl) rfl
theorem q2907 : (Jvm.Cond.laysFinal "CoinJudgeModel" "CoinJudgeModel" "rest" "[I") ∈ lw_all := lw_g (lw_at lw_m12 118 rfl) rfl
theorem q2908 : (Jvm.Cond.soleField "CoinJudgeModel" "rest") ∈ lw_all := lw_g (lw_at lw_m12 119 rfl) rfl
theorem q2909 : (Jvm.Cond.laysFinal "CoinJudgeModel" "CoinJudgeModel" "blocks" "[LCoinJudgeModel$Block;") ∈ lw_all := lw_g (lw_at lw_m12 120 rfl) rfl
theorem q2910 : (Jvm.Cond.soleField "CoinJudgeModel" "blocks") ∈ lw_all := lw_g (lw_at lw_m12 121 rfl) rfl
theorem q2911 : (Jvm.Cond.lays "CoinJudgeModel" "CoinJudgeModel" "kept" "I") ∈ lw_all := lw_g (lw_at lw_m12 122 rfl) rfl
theorem q2912 : (Jvm.Cond.soleField "CoinJudgeModel" "kept") ∈ lw_all := lw_g (lw_at lw_m12 123 rfl) rfl
theorem q2913 : (Jvm.Cond.lays "CoinJudgeModel" "CoinJudgeModel" "best" "I") ∈ lw_all := lw_g (lw_at lw_m12 124 rfl) rfl
theorem q2914 : (Jvm.Cond.soleField "CoinJudgeModel" "best") ∈ lw_all := lw_g (lw_at lw_m12 125 rfl) rfl
theorem q2915 : (Jvm.Cond.laysFinal "CoinJudgeModel" "CoinJudgeModel" "coins" "[I") ∈ lw_all := lw_g (lw_at lw_m12 126 rfl) rfl
theorem q2916 : (Jvm.Cond.soleField "CoinJudgeModel" "coins") ∈ lw_all := lw_g (lw_at lw_m12 127 rfl) rfl
theorem q2917 : (Jvm.Cond.lays "CoinJudgeModel" "CoinJudgeModel" "coinCount" "I") ∈ lw_all := lw_g (lw_at lw_m12 128 rfl) rfl
theorem q2918 : (Jvm.Cond.soleField "CoinJudgeModel" "coinCount") ∈ lw_all := lw_g (lw_at lw_m12 129 rfl) rfl
theorem q2919 : (Jvm.Cond.laysFinal "CoinJudgeModel" "CoinJudgeModel" "trial" "[I") ∈ lw_all := lw_g (lw_at lw_m12 130 rfl) rfl
theorem q2920 : (Jvm.Cond.soleField "CoinJudgeModel" "trial") ∈ lw_all := lw_g (lw_at lw_m12 131 rfl) rfl
theorem q2921 : (Jvm.Cond.lays "CoinJudgeModel" "CoinJudgeModel" "trialCount" "I") ∈ lw_all := lw_g (lw_at lw_m12 132 rfl) rfl
theorem q2922 : (Jvm.Cond.soleField "CoinJudgeModel" "trialCount") ∈ lw_all := lw_g (lw_at lw_m12 133 rfl) rfl
theorem q2923 : (Jvm.Cond.laysFinal "CoinJudgeModel" "CoinJudgeModel" "times" "[J") ∈ lw_all := lw_g (lw_at lw_m12 134 rfl) rfl
theorem q2924 : (Jvm.Cond.soleField "CoinJudgeModel" "times") ∈ lw_all := lw_g (lw_at lw_m12 135 rfl) rfl
theorem q2925 : (Jvm.Cond.laysFinal "CoinJudgeModel" "CoinJudgeModel" "wide" "[I") ∈ lw_all := lw_g (lw_at lw_m12 136 rfl) rfl
theorem q2926 : (Jvm.Cond.soleField "CoinJudgeModel" "wide") ∈ lw_all := lw_g (lw_at lw_m12 137 rfl) rfl
theorem q2927 : (Jvm.Cond.lays "CoinJudgeModel" "CoinJudgeModel" "reason" "I") ∈ lw_all := lw_g (lw_at lw_m12 138 rfl) rfl
theorem q2928 : (Jvm.Cond.soleField "CoinJudgeModel" "reason") ∈ lw_all := lw_g (lw_at lw_m12 139 rfl) rfl
theorem q2929 : (Jvm.Cond.laysFinal "CoinJudgeModel" "CoinJudgeModel" "judged" "LCoinJudgeModel$Parsed;") ∈ lw_all := lw_g (lw_at lw_m12 140 rfl) rfl
theorem q2930 : (Jvm.Cond.soleField "CoinJudgeModel" "judged") ∈ lw_all := lw_g (lw_at lw_m12 141 rfl) rfl
theorem q2931 : (Jvm.Cond.laysFinal "CoinJudgeModel" "CoinJudgeModel" "judgedHash" "[B") ∈ lw_all := lw_g (lw_at lw_m12 142 rfl) rfl
theorem q2932 : (Jvm.Cond.soleField "CoinJudgeModel" "judgedHash") ∈ lw_all := lw_g (lw_at lw_m12 143 rfl) rfl
theorem q2933 : (Jvm.Cond.laysFinal "CoinJudgeModel" "CoinJudgeModel" "tree" "[B") ∈ lw_all := lw_g (lw_at lw_m12 144 rfl) rfl
theorem q2934 : (Jvm.Cond.soleField "CoinJudgeModel" "tree") ∈ lw_all := lw_g (lw_at lw_m12 145 rfl) rfl
theorem q2935 : (Jvm.Cond.laysFinal "CoinJudgeModel" "CoinJudgeModel" "both" "[B") ∈ lw_all := lw_g (lw_at lw_m12 146 rfl) rfl
theorem q2936 : (Jvm.Cond.soleField "CoinJudgeModel" "both") ∈ lw_all := lw_g (lw_at lw_m12 147 rfl) rfl
theorem q2937 : (Jvm.Cond.laysFinal "CoinJudgeModel" "CoinJudgeModel" "root" "[B") ∈ lw_all := lw_g (lw_at lw_m12 148 rfl) rfl
theorem q2938 : (Jvm.Cond.soleField "CoinJudgeModel" "root") ∈ lw_all := lw_g (lw_at lw_m12 149 rfl) rfl
theorem q2939 : (Jvm.Cond.laysFinal "CoinJudgeModel" "CoinJudgeModel" "aim" "[I") ∈ lw_all := lw_g (lw_at lw_m12 150 rfl) rfl
theorem q2940 : (Jvm.Cond.soleField "CoinJudgeModel" "aim") ∈ lw_all := lw_g (lw_at lw_m12 151 rfl) rfl
theorem q2941 : (Jvm.Cond.laysFinal "CoinJudgeModel" "CoinJudgeModel" "found" "[I") ∈ lw_all := lw_g (lw_at lw_m12 152 rfl) rfl
theorem q2942 : (Jvm.Cond.soleField "CoinJudgeModel" "found") ∈ lw_all := lw_g (lw_at lw_m12 153 rfl) rfl
theorem q2943 : (Jvm.Cond.lays "CoinJudgeModel" "CoinJudgeModel" "pushed" "I") ∈ lw_all := lw_g (lw_at lw_m12 154 rfl) rfl
theorem q2944 : (Jvm.Cond.soleField "CoinJudgeModel" "pushed") ∈ lw_all := lw_g (lw_at lw_m12 155 rfl) rfl
theorem q2945 : (Jvm.Cond.laysFinal "CoinJudgeModel" "CoinJudgeModel" "path" "[I") ∈ lw_all := lw_g (lw_at lw_m12 156 rfl) rfl
theorem q2946 : (Jvm.Cond.soleField "CoinJudgeModel" "path") ∈ lw_all := lw_g (lw_at lw_m12 157 rfl) rfl
theorem q2947 : (Jvm.Cond.laysFinal "CoinJudgeModel" "CoinJudgeModel" "stack" "[[B") ∈ lw_all := lw_g (lw_at lw_m12 158 rfl) rfl
theorem q2948 : (Jvm.Cond.soleField "CoinJudgeModel" "stack") ∈ lw_all := lw_g (lw_at lw_m12 159 rfl) rfl
theorem q2949 : (Jvm.Cond.laysFinal "CoinJudgeModel" "CoinJudgeModel" "sizes" "[I") ∈ lw_all := lw_g (lw_at lw_m12 160 rfl) rfl
theorem q2950 : (Jvm.Cond.soleField "CoinJudgeModel" "sizes") ∈ lw_all := lw_g (lw_at lw_m12 161 rfl) rfl
theorem q2951 : (Jvm.Cond.lays "CoinJudgeModel" "CoinJudgeModel" "top" "I") ∈ lw_all := lw_g (lw_at lw_m12 162 rfl) rfl
theorem q2952 : (Jvm.Cond.soleField "CoinJudgeModel" "top") ∈ lw_all := lw_g (lw_at lw_m12 163 rfl) rfl
theorem q2953 : (Jvm.Cond.laysFinal "CoinJudgeModel" "CoinJudgeModel" "others" "[[B") ∈ lw_all := lw_g (lw_at lw_m12 164 rfl) rfl
theorem q2954 : (Jvm.Cond.soleField "CoinJudgeModel" "others") ∈ lw_all := lw_g (lw_at lw_m12 165 rfl) rfl
theorem q2955 : (Jvm.Cond.laysFinal "CoinJudgeModel" "CoinJudgeModel" "otherSizes" "[I") ∈ lw_all := lw_g (lw_at lw_m12 166 rfl) rfl
theorem q2956 : (Jvm.Cond.soleField "CoinJudgeModel" "otherSizes") ∈ lw_all := lw_g (lw_at lw_m12 167 rfl) rfl
theorem q2957 : (Jvm.Cond.lays "CoinJudgeModel" "CoinJudgeModel" "otherTop" "I") ∈ lw_all := lw_g (lw_at lw_m12 168 rfl) rfl
theorem q2958 : (Jvm.Cond.soleField "CoinJudgeModel" "otherTop") ∈ lw_all := lw_g (lw_at lw_m12 169 rfl) rfl
theorem q2959 : (Jvm.Cond.laysFinal "CoinJudgeModel" "CoinJudgeModel" "saved" "[[B") ∈ lw_all := lw_g (lw_at lw_m12 170 rfl) rfl
theorem q2960 : (Jvm.Cond.soleField "CoinJudgeModel" "saved") ∈ lw_all := lw_g (lw_at lw_m12 171 rfl) rfl
theorem q2961 : (Jvm.Cond.laysFinal "CoinJudgeModel" "CoinJudgeModel" "savedSizes" "[I") ∈ lw_all := lw_g (lw_at lw_m12 172 rfl) rfl
theorem q2962 : (Jvm.Cond.soleField "CoinJudgeModel" "savedSizes") ∈ lw_all := lw_g (lw_at lw_m12 173 rfl) rfl
theorem q2963 : (Jvm.Cond.lays "CoinJudgeModel" "CoinJudgeModel" "savedTop" "I") ∈ lw_all := lw_g (lw_at lw_m12 174 rfl) rfl
theorem q2964 : (Jvm.Cond.soleField "CoinJudgeModel" "savedTop") ∈ lw_all := lw_g (lw_at lw_m12 175 rfl) rfl
theorem q2965 : (Jvm.Cond.lays "CoinJudgeModel" "CoinJudgeModel" "failed" "Z") ∈ lw_all := lw_g (lw_at lw_m12 176 rfl) rfl
theorem q2966 : (Jvm.Cond.soleField "CoinJudgeModel" "failed") ∈ lw_all := lw_g (lw_at lw_m12 177 rfl) rfl
theorem q2967 : (Jvm.Cond.laysFinal "CoinJudgeModel" "CoinJudgeModel" "small" "[B") ∈ lw_all := lw_g (lw_at lw_m12 178 rfl) rfl
theorem q2968 : (Jvm.Cond.soleField "CoinJudgeModel" "small") ∈ lw_all := lw_g (lw_at lw_m12 179 rfl) rfl
theorem q2969 : (Jvm.Cond.lays "CoinJudgeModel" "CoinJudgeModel" "inBlock" "LCoinJudgeModel$Parsed;") ∈ lw_all := lw_g (lw_at lw_m12 180 rfl) rfl
theorem q2970 : (Jvm.Cond.soleField "CoinJudgeModel" "inBlock") ∈ lw_all := lw_g (lw_at lw_m12 181 rfl) rfl
theorem q2971 : (Jvm.Cond.lays "CoinJudgeModel" "CoinJudgeModel" "inTx" "I") ∈ lw_all := lw_g (lw_at lw_m12 182 rfl) rfl
theorem q2972 : (Jvm.Cond.soleField "CoinJudgeModel" "inTx") ∈ lw_all := lw_g (lw_at lw_m12 183 rfl) rfl
theorem q2973 : (Jvm.Cond.lays "CoinJudgeModel" "CoinJudgeModel" "inInput" "I") ∈ lw_all := lw_g (lw_at lw_m12 184 rfl) rfl
theorem q2974 : (Jvm.Cond.soleField "CoinJudgeModel" "inInput") ∈ lw_all := lw_g (lw_at lw_m12 185 rfl) rfl
theorem q2975 : (Jvm.Cond.lays "CoinJudgeModel" "CoinJudgeModel" "code" "[B") ∈ lw_all := lw_g (lw_at lw_m12 186 rfl) rfl
theorem q2976 : (Jvm.Cond.soleField "CoinJudgeModel" "code") ∈ lw_all := lw_g (lw_at lw_m12 187 rfl) rfl
theorem q2977 : (Jvm.Cond.lays "CoinJudgeModel" "CoinJudgeModel" "codeFrom" "I") ∈ lw_all := lw_g (lw_at lw_m12 188 rfl) rfl
theorem q2978 : (Jvm.Cond.soleField "CoinJudgeModel" "codeFrom") ∈ lw_all := lw_g (lw_at lw_m12 189 rfl) rfl
theorem q2979 : (Jvm.Cond.lays "CoinJudgeModel" "CoinJudgeModel" "codeEnd" "I") ∈ lw_all := lw_g (lw_at lw_m12 190 rfl) rfl
theorem q2980 : (Jvm.Cond.soleField "CoinJudgeModel" "codeEnd") ∈ lw_all := lw_g (lw_at lw_m12 191 rfl) rfl
theorem q2981 : (Jvm.Cond.lays "CoinJudgeModel" "CoinJudgeModel" "operations" "I") ∈ lw_all := lw_g (lw_at lw_m12 192 rfl) rfl
theorem q2982 : (Jvm.Cond.soleField "CoinJudgeModel" "operations") ∈ lw_all := lw_g (lw_at lw_m12 193 rfl) rfl
theorem q2983 : (Jvm.Cond.laysFinal "CoinJudgeModel" "CoinJudgeModel" "conditions" "[Z") ∈ lw_all := lw_g (lw_at lw_m12 194 rfl) rfl
theorem q2984 : (Jvm.Cond.soleField "CoinJudgeModel" "conditions") ∈ lw_all := lw_g (lw_at lw_m12 195 rfl) rfl
theorem q2985 : (Jvm.Cond.lays "CoinJudgeModel" "CoinJudgeModel" "open" "I") ∈ lw_all := lw_g (lw_at lw_m12 196 rfl) rfl
theorem q2986 : (Jvm.Cond.soleField "CoinJudgeModel" "open") ∈ lw_all := lw_g (lw_at lw_m12 197 rfl) rfl
theorem q2987 : (Jvm.Cond.laysFinal "CoinJudgeModel" "CoinJudgeModel" "needed" "[I") ∈ lw_all := lw_g (lw_at lw_m12 198 rfl) rfl
theorem q2988 : (Jvm.Cond.soleField "CoinJudgeModel" "needed") ∈ lw_all := lw_g (lw_at lw_m12 199 rfl) rfl
theorem q2989 : (Jvm.Cond.laysFinal "CoinJudgeModel" "CoinJudgeModel" "digest" "[B") ∈ lw_all := lw_g (lw_at lw_m12 200 rfl) rfl
theorem q2990 : (Jvm.Cond.soleField "CoinJudgeModel" "digest") ∈ lw_all := lw_g (lw_at lw_m12 201 rfl) rfl
theorem q2991 : (Jvm.Cond.lays "CoinJudgeModel" "CoinJudgeModel" "cut" "[B") ∈ lw_all := lw_g (lw_at lw_m12 202 rfl) rfl
theorem q2992 : (Jvm.Cond.soleField "CoinJudgeModel" "cut") ∈ lw_all := lw_g (lw_at lw_m12 203 rfl) rfl
theorem q2993 : (Jvm.Cond.lays "CoinJudgeModel" "CoinJudgeModel" "less" "[B") ∈ lw_all := lw_g (lw_at lw_m12 204 rfl) rfl
theorem q2994 : (Jvm.Cond.soleField "CoinJudgeModel" "less") ∈ lw_all := lw_g (lw_at lw_m12 205 rfl) rfl
theorem q2995 : (Jvm.Cond.lays "CoinJudgeModel" "CoinJudgeModel" "cutLength" "I") ∈ lw_all := lw_g (lw_at lw_m12 206 rfl) rfl
theorem q2996 : (Jvm.Cond.soleField "CoinJudgeModel" "cutLength") ∈ lw_all := lw_g (lw_at lw_m12 207 rfl) rfl
theorem q2997 : (Jvm.Cond.laysFinal "CoinJudgeModel" "CoinJudgeModel" "signed" "[B") ∈ lw_all := lw_g (lw_at lw_m12 208 rfl) rfl
theorem q2998 : (Jvm.Cond.soleField "CoinJudgeModel" "signed") ∈ lw_all := lw_g (lw_at lw_m12 209 rfl) rfl
theorem q2999 : (Jvm.Cond.lays "CoinJudgeModel" "CoinJudgeModel" "signedLength" "I") ∈ lw_all := lw_g (lw_at lw_m12 210 rfl) rfl
theorem q3000 : (Jvm.Cond.soleField "CoinJudgeModel" "signedLength") ∈ lw_all := lw_g (lw_at lw_m12 211 rfl) rfl
theorem q3001 : (Jvm.Cond.lays "CoinJudgeModel" "CoinJudgeModel" "draftParent" "I") ∈ lw_all := lw_g (lw_at lw_m12 212 rfl) rfl
theorem q3002 : (Jvm.Cond.soleField "CoinJudgeModel" "draftParent") ∈ lw_all := lw_g (lw_at lw_m12 213 rfl) rfl
theorem q3003 : (Jvm.Cond.lays "CoinJudgeModel" "CoinJudgeModel" "draftTime" "J") ∈ lw_all := lw_g (lw_at lw_m12 214 rfl) rfl
theorem q3004 : (Jvm.Cond.soleField "CoinJudgeModel" "draftTime") ∈ lw_all := lw_g (lw_at lw_m12 215 rfl) rfl
theorem q3005 : (Jvm.Cond.lays "CoinJudgeModel" "CoinJudgeModel" "txs" "I") ∈ lw_all := lw_g (lw_at lw_m12 216 rfl) rfl
theorem q3006 : (Jvm.Cond.soleField "CoinJudgeModel" "txs") ∈ lw_all := lw_g (lw_at lw_m12 217 rfl) rfl
theorem q3007 : (Jvm.Cond.laysFinal "CoinJudgeModel" "CoinJudgeModel" "versions" "[J") ∈ lw_all := lw_g (lw_at lw_m12 218 rfl) rfl
theorem q3008 : (Jvm.Cond.soleField "CoinJudgeModel" "versions") ∈ lw_all := lw_g (lw_at lw_m12 219 rfl) rfl
theorem q3009 : (Jvm.Cond.laysFinal "CoinJudgeModel" "CoinJudgeModel" "locks" "[J") ∈ lw_all := lw_g (lw_at lw_m12 220 rfl) rfl
theorem q3010 : (Jvm.Cond.soleField "CoinJudgeModel" "locks") ∈ lw_all := lw_g (lw_at lw_m12 221 rfl) rfl
theorem q3011 : (Jvm.Cond.laysFinal "CoinJudgeModel" "CoinJudgeModel" "inputs" "[I") ∈ lw_all := lw_g (lw_at lw_m12 222 rfl) rfl
theorem q3012 : (Jvm.Cond.soleField "CoinJudgeModel" "inputs") ∈ lw_all := lw_g (lw_at lw_m12 223 rfl) rfl
theorem q3013 : (Jvm.Cond.laysFinal "CoinJudgeModel" "CoinJudgeModel" "outputs" "[I") ∈ lw_all := lw_g (lw_at lw_m12 224 rfl) rfl
theorem q3014 : (Jvm.Cond.soleField "CoinJudgeModel" "outputs") ∈ lw_all := lw_g (lw_at lw_m12 225 rfl) rfl
theorem q3015 : (Jvm.Cond.laysFinal "CoinJudgeModel" "CoinJudgeModel" "inIds" "[B") ∈ lw_all := lw_g (lw_at lw_m12 226 rfl) rfl
theorem q3016 : (Jvm.Cond.soleField "CoinJudgeModel" "inIds") ∈ lw_all := lw_g (lw_at lw_m12 227 rfl) rfl
theorem q3017 : (Jvm.Cond.laysFinal "CoinJudgeModel" "CoinJudgeModel" "sequences" "[J") ∈ lw_all := lw_g (lw_at lw_m12 228 rfl) rfl
theorem q3018 : (Jvm.Cond.soleField "CoinJudgeModel" "sequences") ∈ lw_all := lw_g (lw_at lw_m12 229 rfl) rfl
theorem q3019 : (Jvm.Cond.laysFinal "CoinJudgeModel" "CoinJudgeModel" "inScripts" "[[B") ∈ lw_all := lw_g (lw_at lw_m12 230 rfl) rfl
theorem q3020 : (Jvm.Cond.soleField "CoinJudgeModel" "inScripts") ∈ lw_all := lw_g (lw_at lw_m12 231 rfl) rfl
theorem q3021 : (Jvm.Cond.laysFinal "CoinJudgeModel" "CoinJudgeModel" "inLengths" "[I") ∈ lw_all := lw_g (lw_at lw_m12 232 rfl) rfl
theorem q3022 : (Jvm.Cond.soleField "CoinJudgeModel" "inLengths") ∈ lw_all := lw_g (lw_at lw_m12 233 rfl) rfl
theorem q3023 : (Jvm.Cond.laysFinal "CoinJudgeModel" "CoinJudgeModel" "values" "[J") ∈ lw_all := lw_g (lw_at lw_m12 234 rfl) rfl
theorem q3024 : (Jvm.Cond.soleField "CoinJudgeModel" "values") ∈ lw_all := lw_g (lw_at lw_m12 235 rfl) rfl
theorem q3025 : (Jvm.Cond.laysFinal "CoinJudgeModel" "CoinJudgeModel" "outScripts" "[[B") ∈ lw_all := lw_g (lw_at lw_m12 236 rfl) rfl
theorem q3026 : (Jvm.Cond.soleField "CoinJudgeModel" "outScripts") ∈ lw_all := lw_g (lw_at lw_m12 237 rfl) rfl
theorem q3027 : (Jvm.Cond.laysFinal "CoinJudgeModel" "CoinJudgeModel" "outLengths" "[I") ∈ lw_all := lw_g (lw_at lw_m12 238 rfl) rfl
theorem q3028 : (Jvm.Cond.soleField "CoinJudgeModel" "outLengths") ∈ lw_all := lw_g (lw_at lw_m12 239 rfl) rfl
theorem q3029 : (Jvm.Cond.lays "CoinJudgeModel" "CoinJudgeModel" "made" "[B") ∈ lw_all := lw_g (lw_at lw_m13 0 rfl) rfl
theorem q3030 : (Jvm.Cond.soleField "CoinJudgeModel" "made") ∈ lw_all := lw_g (lw_at lw_m13 1 rfl) rfl
theorem q3031 : (Jvm.Cond.lays "CoinJudgeModel" "CoinJudgeModel" "madeLength" "I") ∈ lw_all := lw_g (lw_at lw_m13 2 rfl) rfl
theorem q3032 : (Jvm.Cond.soleField "CoinJudgeModel" "madeLength") ∈ lw_all := lw_g (lw_at lw_m13 3 rfl) rfl
theorem q3033 : (Jvm.Cond.laysFinal "CoinJudgeModel" "CoinJudgeModel" "draftIds" "[B") ∈ lw_all := lw_g (lw_at lw_m13 4 rfl) rfl
theorem q3034 : (Jvm.Cond.soleField "CoinJudgeModel" "draftIds") ∈ lw_all := lw_g (lw_at lw_m13 5 rfl) rfl
theorem q3035 : (Jvm.Cond.laysFinal "CoinJudgeModel" "CoinJudgeModel" "tape" "[B") ∈ lw_all := lw_g (lw_at lw_m13 6 rfl) rfl
theorem q3036 : (Jvm.Cond.soleField "CoinJudgeModel" "tape") ∈ lw_all := lw_g (lw_at lw_m13 7 rfl) rfl
theorem q3037 : (Jvm.Cond.lays "CoinJudgeModel" "CoinJudgeModel" "taped" "I") ∈ lw_all := lw_g (lw_at lw_m13 8 rfl) rfl
theorem q3038 : (Jvm.Cond.soleField "CoinJudgeModel" "taped") ∈ lw_all := lw_g (lw_at lw_m13 9 rfl) rfl
theorem q3039 : (Jvm.Cond.lays "CoinJudgeModel" "CoinJudgeModel" "code1" "I") ∈ lw_all := lw_g (lw_at lw_m13 10 rfl) rfl
theorem q3040 : (Jvm.Cond.soleField "CoinJudgeModel" "code1") ∈ lw_all := lw_g (lw_at lw_m13 11 rfl) rfl
theorem q3041 : (Jvm.Cond.laysFinal "CoinJudgeModel" "CoinJudgeModel" "least" "[I") ∈ lw_all := lw_g (lw_at lw_m13 12 rfl) rfl
theorem q3042 : (Jvm.Cond.soleField "CoinJudgeModel" "least") ∈ lw_all := lw_g (lw_at lw_m13 13 rfl) rfl
theorem q3043 : (Jvm.Cond.laysFinal "CoinJudgeModel" "CoinJudgeModel" "keyBytes" "[B") ∈ lw_all := lw_g (lw_at lw_m13 14 rfl) rfl
theorem q3044 : (Jvm.Cond.soleField "CoinJudgeModel" "keyBytes") ∈ lw_all := lw_g (lw_at lw_m13 15 rfl) rfl
theorem q3045 : (Jvm.Cond.laysFinal "CoinJudgeModel" "CoinJudgeModel" "draft" "LCoinJudgeModel$Parsed;") ∈ lw_all := lw_g (lw_at lw_m13 16 rfl) rfl
theorem q3046 : (Jvm.Cond.soleField "CoinJudgeModel" "draft") ∈ lw_all := lw_g (lw_at lw_m13 17 rfl) rfl
theorem q3047 : (Jvm.Cond.laysFinal "CoinJudgeModel" "CoinJudgeModel" "signature" "[B") ∈ lw_all := lw_g (lw_at lw_m13 18 rfl) rfl
theorem q3048 : (Jvm.Cond.soleField "CoinJudgeModel" "signature") ∈ lw_all := lw_g (lw_at lw_m13 19 rfl) rfl
theorem q3049 : (Jvm.Cond.lays "CoinJudgeModel" "CoinJudgeModel" "signatureLength" "I") ∈ lw_all := lw_g (lw_at lw_m13 20 rfl) rfl
theorem q3050 : (Jvm.Cond.soleField "CoinJudgeModel" "signatureLength") ∈ lw_all := lw_g (lw_at lw_m13 21 rfl) rfl
theorem q3051 : (Jvm.Cond.laysFinal "CoinJudgeModel" "CoinJudgeModel" "small32" "[B") ∈ lw_all := lw_g (lw_at lw_m13 22 rfl) rfl
theorem q3052 : (Jvm.Cond.soleField "CoinJudgeModel" "small32") ∈ lw_all := lw_g (lw_at lw_m13 23 rfl) rfl
theorem q3053 : (Jvm.Cond.laysFinal "CoinJudgeModel" "CoinJudgeModel" "seed" "[B") ∈ lw_all := lw_g (lw_at lw_m13 24 rfl) rfl
theorem q3054 : (Jvm.Cond.soleField "CoinJudgeModel" "seed") ∈ lw_all := lw_g (lw_at lw_m13 25 rfl) rfl
theorem q3055 : (Jvm.Cond.superclass "CoinJudgeModel" "java/lang/Object") ∈ lw_all := lw_g (lw_at lw_m13 26 rfl) rfl
theorem q3056 : (Jvm.Cond.methodLink "CoinJudgeLaw" (90 : Nat) ({ cls := "CoinJudgeModel", name := "thrown", desc := "()I" } : Jvm.MethodName)) ∈ lw_all := lw_g (lw_at lw_m13 27 rfl) rfl
theorem q3057 : (Jvm.Cond.instanceMethod ({ cls := "CoinJudgeModel", name := "thrown", desc := "()I" } : Jvm.MethodName)) ∈ lw_all := lw_g (lw_at lw_m13 28 rfl) rfl
theorem q3058 : (Jvm.Cond.selects "CoinJudgeModel" ({ cls := "CoinJudgeModel", name := "thrown", desc := "()I" } : Jvm.MethodName) ({ cls := "CoinJudgeModel", name := "thrown", desc := "()I" } : Jvm.MethodName)) ∈ lw_all := lw_g (lw_at lw_m13 29 rfl) rfl
theorem q3059 : (Jvm.Cond.code ({ cls := "CoinJudgeModel", name := "thrown", desc := "()I" } : Jvm.MethodName) prog_27_method_96_code (1 : Nat) (Option.some Jvm.ClassFile.FieldType.int)) ∈ lw_all := lw_g (lw_at lw_m13 30 rfl) rfl
theorem q3060 : (Jvm.Cond.methodLink "CoinJudgeLaw" (89 : Nat) ({ cls := "CoinJudgeModel", name := "feed", desc := "(IIIII)I" } : Jvm.MethodName)) ∈ lw_all := lw_g (lw_at lw_m13 31 rfl) rfl
theorem q3061 : (Jvm.Cond.instanceMethod ({ cls := "CoinJudgeModel", name := "feed", desc := "(IIIII)I" } : Jvm.MethodName)) ∈ lw_all := lw_g (lw_at lw_m13 32 rfl) rfl
theorem q3062 : (Jvm.Cond.selects "CoinJudgeModel" ({ cls := "CoinJudgeModel", name := "feed", desc := "(IIIII)I" } : Jvm.MethodName) ({ cls := "CoinJudgeModel", name := "feed", desc := "(IIIII)I" } : Jvm.MethodName)) ∈ lw_all := lw_g (lw_at lw_m13 33 rfl) rfl
theorem q3063 : (Jvm.Cond.code ({ cls := "CoinJudgeModel", name := "feed", desc := "(IIIII)I" } : Jvm.MethodName) prog_27_method_98_code (6 : Nat) (Option.some Jvm.ClassFile.FieldType.int)) ∈ lw_all := lw_g (lw_at lw_m13 34 rfl) rfl
theorem q3064 : (Jvm.Cond.methodLink "CoinJudgeModel" (891 : Nat) ({ cls := "CoinJudgeModel", name := "good", desc := "(ZI)Z" } : Jvm.MethodName)) ∈ lw_all := lw_g (lw_at lw_m13 35 rfl) rfl
theorem q3065 : (Jvm.Cond.privateMethod ({ cls := "CoinJudgeModel", name := "good", desc := "(ZI)Z" } : Jvm.MethodName)) ∈ lw_tbl := lw_at lw_m13 36 rfl
theorem q3066 : (Jvm.Cond.instanceMethod ({ cls := "CoinJudgeModel", name := "good", desc := "(ZI)Z" } : Jvm.MethodName)) ∈ lw_all := lw_g (lw_at lw_m13 37 rfl) rfl
theorem q3067 : (Jvm.Cond.code ({ cls := "CoinJudgeModel", name := "good", desc := "(ZI)Z" } : Jvm.MethodName) prog_27_method_97_code (3 : Nat) (Option.some Jvm.ClassFile.FieldType.boolean)) ∈ lw_all := lw_g (lw_at lw_m13 38 rfl) rfl
theorem q3068 : (Jvm.Cond.methodLink "CoinJudgeModel" (895 : Nat) ({ cls := "CoinJudgeModel", name := "four", desc := "(I)V" } : Jvm.MethodName)) ∈ lw_all := lw_g (lw_at lw_m13 39 rfl) rfl
theorem q3069 : (Jvm.Cond.privateMethod ({ cls := "CoinJudgeModel", name := "four", desc := "(I)V" } : Jvm.MethodName)) ∈ lw_tbl := lw_at lw_m13 40 rfl
theorem q3070 : (Jvm.Cond.instanceMethod ({ cls := "CoinJudgeModel", name := "four", desc := "(I)V" } : Jvm.MethodName)) ∈ lw_all := lw_g (lw_at lw_m13 41 rfl) rfl
theorem q3071 : (Jvm.Cond.code ({ cls := "CoinJudgeModel", name := "four", desc := "(I)V" } : Jvm.MethodName) prog_27_method_99_code (3 : Nat) (Option.none : Option Jvm.ClassFile.FieldType)) ∈ lw_all := lw_g (lw_at lw_m13 42 rfl) rfl
theorem q3072 : (Jvm.Cond.methodLink "CoinJudgeLaw" (96 : Nat) ({ cls := "CoinJudgeModel", name := "end", desc := "(I)I" } : Jvm.MethodName)) ∈ lw_all := lw_g (lw_at lw_m13 43 rfl) rfl
theorem q3073 : (Jvm.Cond.instanceMethod ({ cls := "CoinJudgeModel", name := "end", desc := "(I)I" } : Jvm.MethodName)) ∈ lw_all := lw_g (lw_at lw_m13 44 rfl) rfl
theorem q3074 : (Jvm.Cond.selects "CoinJudgeModel" ({ cls := "CoinJudgeModel", name := "end", desc := "(I)I" } : Jvm.MethodName) ({ cls := "CoinJudgeModel", name := "end", desc := "(I)I" } : Jvm.MethodName)) ∈ lw_all := lw_g (lw_at lw_m13 45 rfl) rfl
theorem q3075 : (Jvm.Cond.code ({ cls := "CoinJudgeModel", name := "end", desc := "(I)I" } : Jvm.MethodName) prog_27_method_100_code (2 : Nat) (Option.some Jvm.ClassFile.FieldType.int)) ∈ lw_all := lw_g (lw_at lw_m13 46 rfl) rfl
theorem q3076 : (Jvm.Cond.methodLink "CoinJudgeLaw" (100 : Nat) ({ cls := "CoinJudgeModel", name := "patch", desc := "(II)I" } : Jvm.MethodName)) ∈ lw_all := lw_g (lw_at lw_m13 47 rfl) rfl
theorem q3077 : (Jvm.Cond.instanceMethod ({ cls := "CoinJudgeModel", name := "patch", desc := "(II)I" } : Jvm.MethodName)) ∈ lw_all := lw_g (lw_at lw_m13 48 rfl) rfl
theorem q3078 : (Jvm.Cond.selects "CoinJudgeModel" ({ cls := "CoinJudgeModel", name := "patch", desc := "(II)I" } : Jvm.MethodName) ({ cls := "CoinJudgeModel", name := "patch", desc := "(II)I" } : Jvm.MethodName)) ∈ lw_all := lw_g (lw_at lw_m13 49 rfl) rfl
theorem q3079 : (Jvm.Cond.code ({ cls := "CoinJudgeModel", name := "patch", desc := "(II)I" } : Jvm.MethodName) prog_27_method_101_code (4 : Nat) (Option.some Jvm.ClassFile.FieldType.int)) ∈ lw_all := lw_g (lw_at lw_m13 50 rfl) rfl
theorem q3080 : (Jvm.Cond.methodLink "CoinJudgeLaw" (103 : Nat) ({ cls := "CoinJudgeModel", name := "key", desc := "(II)I" } : Jvm.MethodName)) ∈ lw_all := lw_g (lw_at lw_m13 51 rfl) rfl
theorem q3081 : (Jvm.Cond.instanceMethod ({ cls := "CoinJudgeModel", name := "key", desc := "(II)I" } : Jvm.MethodName)) ∈ lw_all := lw_g (lw_at lw_m13 52 rfl) rfl
theorem q3082 : (Jvm.Cond.selects "CoinJudgeModel" ({ cls := "CoinJudgeModel", name := "key", desc := "(II)I" } : Jvm.MethodName) ({ cls := "CoinJudgeModel", name := "key", desc := "(II)I" } : Jvm.MethodName)) ∈ lw_all := lw_g (lw_at lw_m13 53 rfl) rfl
theorem q3083 : (Jvm.Cond.code ({ cls := "CoinJudgeModel", name := "key", desc := "(II)I" } : Jvm.MethodName) prog_27_method_103_code (4 : Nat) (Option.some Jvm.ClassFile.FieldType.int)) ∈ lw_all := lw_g (lw_at lw_m13 54 rfl) rfl
theorem q3084 : (Jvm.Cond.methodLink "CoinJudgeModel" (902 : Nat) ({ cls := "CoinJudgeModel", name := "keyOf", desc := "(I)V" } : Jvm.MethodName)) ∈ lw_all := lw_g (lw_at lw_m13 55 rfl) rfl
theorem q3085 : (Jvm.Cond.privateMethod ({ cls := "CoinJudgeModel", name := "keyOf", desc := "(I)V" } : Jvm.MethodName)) ∈ lw_tbl := lw_at lw_m13 56 rfl
theorem q3086 : (Jvm.Cond.instanceMethod ({ cls := "CoinJudgeModel", name := "keyOf", desc := "(I)V" } : Jvm.MethodName)) ∈ lw_all := lw_g (lw_at lw_m13 57 rfl) rfl
theorem q3087 : (Jvm.Cond.code ({ cls := "CoinJudgeModel", name := "keyOf", desc := "(I)V" } : Jvm.MethodName) prog_27_method_102_code (3 : Nat) (Option.none : Option Jvm.ClassFile.FieldType)) ∈ lw_all := lw_g (lw_at lw_m13 58 rfl) rfl
theorem q3088 : (Jvm.Cond.methodLink "CoinJudgeModel" (898 : Nat) ({ cls := "CoinJudgeModel", name := "toBytes", desc := "([I[BI)V" } : Jvm.MethodName)) ∈ lw_all := lw_g (lw_at lw_m13 59 rfl) rfl
theorem q3089 : (Jvm.Cond.static ({ cls := "CoinJudgeModel", name := "toBytes", desc := "([I[BI)V" } : Jvm.MethodName)) ∈ lw_all := lw_g (lw_at lw_m13 60 rfl) rfl
theorem q3090 : (Jvm.Cond.code ({ cls := "CoinJudgeModel", name := "toBytes", desc := "([I[BI)V" } : Jvm.MethodName) prog_27_method_2_code (4 : Nat) (Option.none : Option Jvm.ClassFile.FieldType)) ∈ lw_all := lw_g (lw_at lw_m13 61 rfl) rfl
theorem q3091 : (Jvm.Cond.methodLink "CoinJudgeLaw" (106 : Nat) ({ cls := "CoinJudgeModel", name := "digest", desc := "(I)I" } : Jvm.MethodName)) ∈ lw_all := lw_g (lw_at lw_m13 62 rfl) rfl
theorem q3092 : (Jvm.Cond.instanceMethod ({ cls := "CoinJudgeModel", name := "digest", desc := "(I)I" } : Jvm.MethodName)) ∈ lw_all := lw_g (lw_at lw_m13 63 rfl) rfl
theorem q3093 : (Jvm.Cond.selects "CoinJudgeModel" ({ cls := "CoinJudgeModel", name := "digest", desc := "(I)I" } : Jvm.MethodName) ({ cls := "CoinJudgeModel", name := "digest", desc := "(I)I" } : Jvm.MethodName)) ∈ lw_all := lw_g (lw_at lw_m13 64 rfl) rfl
theorem q3094 : (Jvm.Cond.code ({ cls := "CoinJudgeModel", name := "digest", desc := "(I)I" } : Jvm.MethodName) prog_27_method_104_code (2 : Nat) (Option.some Jvm.ClassFile.FieldType.int)) ∈ lw_all := lw_g (lw_at lw_m13 65 rfl) rfl
theorem q3095 : (Jvm.Cond.methodLink "CoinJudgeLaw" (112 : Nat) ({ cls := "CoinJudgeModel", name := "open", desc := "(IJ)V" } : Jvm.MethodName)) ∈ lw_all := lw_g (lw_at lw_m13 66 rfl) rfl
theorem q3096 : (Jvm.Cond.instanceMethod ({ cls := "CoinJudgeModel", name := "open", desc := "(IJ)V" } : Jvm.MethodName)) ∈ lw_all := lw_g (lw_at lw_m13 67 rfl) rfl
theorem q3097 : (Jvm.Cond.selects "CoinJudgeModel" ({ cls := "CoinJudgeModel", name := "open", desc := "(IJ)V" } : Jvm.MethodName) ({ cls := "CoinJudgeModel", name := "open", desc := "(IJ)V" } : Jvm.MethodName)) ∈ lw_all := lw_g (lw_at lw_m13 68 rfl) rfl
theorem q3098 : (Jvm.Cond.code ({ cls := "CoinJudgeModel", name := "open", desc := "(IJ)V" } : Jvm.MethodName) prog_27_method_106_code (4 : Nat) (Option.none : Option Jvm.ClassFile.FieldType)) ∈ lw_all := lw_g (lw_at lw_m13 69 rfl) rfl
theorem q3099 : (Jvm.Cond.methodLink "CoinJudgeModel" (905 : Nat) ({ cls := "CoinJudgeModel", name := "is32", desc := "(J)Z" } : Jvm.MethodName)) ∈ lw_all := lw_g (lw_at lw_m13 70 rfl) rfl
theorem q3100 : (Jvm.Cond.static ({ cls := "CoinJudgeModel", name := "is32", desc := "(J)Z" } : Jvm.MethodName)) ∈ lw_all := lw_g (lw_at lw_m13 71 rfl) rfl
theorem q3101 : (Jvm.Cond.code ({ cls := "CoinJudgeModel", name := "is32", desc := "(J)Z" } : Jvm.MethodName) prog_27_method_105_code (2 : Nat) (Option.some Jvm.ClassFile.FieldType.boolean)) ∈ lw_all := lw_g (lw_at lw_m13 72 rfl) rfl
theorem q3102 : (Jvm.Cond.methodLink "CoinJudgeLaw" (116 : Nat) ({ cls := "CoinJudgeModel", name := "tx", desc := "(JJ)I" } : Jvm.MethodName)) ∈ lw_all := lw_g (lw_at lw_m13 73 rfl) rfl
theorem q3103 : (Jvm.Cond.instanceMethod ({ cls := "CoinJudgeModel", name := "tx", desc := "(JJ)I" } : Jvm.MethodName)) ∈ lw_all := lw_g (lw_at lw_m13 74 rfl) rfl
theorem q3104 : (Jvm.Cond.selects "CoinJudgeModel" ({ cls := "CoinJudgeModel", name := "tx", desc := "(JJ)I" } : Jvm.MethodName) ({ cls := "CoinJudgeModel", name := "tx", desc := "(JJ)I" } : Jvm.MethodName)) ∈ lw_all := lw_g (lw_at lw_m13 75 rfl) rfl
theorem q3105 : (Jvm.Cond.code ({ cls := "CoinJudgeModel", name := "tx", desc := "(JJ)I" } : Jvm.MethodName) prog_27_method_107_code (5 : Nat) (Option.some Jvm.ClassFile.FieldType.int)) ∈ lw_all := lw_g (lw_at lw_m13 76 rfl) rfl
theorem q3106 : (Jvm.Cond.methodLink "CoinJudgeLaw" (120 : Nat) ({ cls := "CoinJudgeModel", name := "input", desc := "(IIIJ)I" } : Jvm.MethodName)) ∈ lw_all := lw_g (lw_at lw_m13 77 rfl) rfl
theorem q3107 : (Jvm.Cond.instanceMethod ({ cls := "CoinJudgeModel", name := "input", desc := "(IIIJ)I" } : Jvm.MethodName)) ∈ lw_all := lw_g (lw_at lw_m13 78 rfl) rfl
theorem q3108 : (Jvm.Cond.selects "CoinJudgeModel" ({ cls := "CoinJudgeModel", name := "input", desc := "(IIIJ)I" } : Jvm.MethodName) ({ cls := "CoinJudgeModel", name := "input", desc := "(IIIJ)I" } : Jvm.MethodName)) ∈ lw_all := lw_g (lw_at lw_m13 79 rfl) rfl
theorem q3109 : (Jvm.Cond.code ({ cls := "CoinJudgeModel", name := "input", desc := "(IIIJ)I" } : Jvm.MethodName) prog_27_method_110_code (10 : Nat) (Option.some Jvm.ClassFile.FieldType.int)) ∈ lw_all := lw_g (lw_at lw_m13 80 rfl) rfl
theorem q3110 : (Jvm.Cond.methodLink "CoinJudgeLaw" (124 : Nat) ({ cls := "CoinJudgeModel", name := "output", desc := "(J)I" } : Jvm.MethodName)) ∈ lw_all := lw_g (lw_at lw_m13 81 rfl) rfl
theorem q3111 : (Jvm.Cond.instanceMethod ({ cls := "CoinJudgeModel", name := "output", desc := "(J)I" } : Jvm.MethodName)) ∈ lw_all := lw_g (lw_at lw_m13 82 rfl) rfl
theorem q3112 : (Jvm.Cond.selects "CoinJudgeModel" ({ cls := "CoinJudgeModel", name := "output", desc := "(J)I" } : Jvm.MethodName) ({ cls := "CoinJudgeModel", name := "output", desc := "(J)I" } : Jvm.MethodName)) ∈ lw_all := lw_g (lw_at lw_m13 83 rfl) rfl
theorem q3113 : (Jvm.Cond.code ({ cls := "CoinJudgeModel", name := "output", desc := "(J)I" } : Jvm.MethodName) prog_27_method_111_code (3 : Nat) (Option.some Jvm.ClassFile.FieldType.int)) ∈ lw_all := lw_g (lw_at lw_m13 84 rfl) rfl
theorem q3114 : (Jvm.Cond.methodLink "CoinJudgeLaw" (127 : Nat) ({ cls := "CoinJudgeModel", name := "push", desc := "(I)I" } : Jvm.MethodName)) ∈ lw_all := lw_g (lw_at lw_m13 85 rfl) rfl
theorem q3115 : (Jvm.Cond.instanceMethod ({ cls := "CoinJudgeModel", name := "push", desc := "(I)I" } : Jvm.MethodName)) ∈ lw_all := lw_g (lw_at lw_m13 86 rfl) rfl
theorem q3116 : (Jvm.Cond.selects "CoinJudgeModel" ({ cls := "CoinJudgeModel", name := "push", desc := "(I)I" } : Jvm.MethodName) ({ cls := "CoinJudgeModel", name := "push", desc := "(I)I" } : Jvm.MethodName)) ∈ lw_all := lw_g (lw_at lw_m13 87 rfl) rfl
theorem q3117 : (Jvm.Cond.code ({ cls := "CoinJudgeModel", name := "push", desc := "(I)I" } : Jvm.MethodName) prog_27_method_114_code (4 : Nat) (Option.some Jvm.ClassFile.FieldType.int)) ∈ lw_all := lw_g (lw_at lw_m13 88 rfl) rfl
theorem q3118 : (Jvm.Cond.methodLink "CoinJudgeModel" (912 : Nat) ({ cls := "CoinJudgeModel", name := "hasInput", desc := "(I)Z" } : Jvm.MethodName)) ∈ lw_all := lw_g (lw_at lw_m13 89 rfl) rfl
theorem q3119 : (Jvm.Cond.privateMethod ({ cls := "CoinJudgeModel", name := "hasInput", desc := "(I)Z" } : Jvm.MethodName)) ∈ lw_tbl := lw_at lw_m13 90 rfl
theorem q3120 : (Jvm.Cond.instanceMethod ({ cls := "CoinJudgeModel", name := "hasInput", desc := "(I)Z" } : Jvm.MethodName)) ∈ lw_all := lw_g (lw_at lw_m13 91 rfl) rfl
theorem q3121 : (Jvm.Cond.code ({ cls := "CoinJudgeModel", name := "hasInput", desc := "(I)Z" } : Jvm.MethodName) prog_27_method_112_code (2 : Nat) (Option.some Jvm.ClassFile.FieldType.boolean)) ∈ lw_all := lw_g (lw_at lw_m13 92 rfl) rfl
theorem q3122 : (Jvm.Cond.methodLink "CoinJudgeModel" (915 : Nat) ({ cls := "CoinJudgeModel", name := "pushTo", desc := "(I[BI)V" } : Jvm.MethodName)) ∈ lw_all := lw_g (lw_at lw_m13 93 rfl) rfl
theorem q3123 : (Jvm.Cond.privateMethod ({ cls := "CoinJudgeModel", name := "pushTo", desc := "(I[BI)V" } : Jvm.MethodName)) ∈ lw_tbl := lw_at lw_m13 94 rfl
theorem q3124 : (Jvm.Cond.instanceMethod ({ cls := "CoinJudgeModel", name := "pushTo", desc := "(I[BI)V" } : Jvm.MethodName)) ∈ lw_all := lw_g (lw_at lw_m13 95 rfl) rfl
theorem q3125 : (Jvm.Cond.code ({ cls := "CoinJudgeModel", name := "pushTo", desc := "(I[BI)V" } : Jvm.MethodName) prog_27_method_113_code (7 : Nat) (Option.none : Option Jvm.ClassFile.FieldType)) ∈ lw_all := lw_g (lw_at lw_m13 96 rfl) rfl
theorem q3126 : (Jvm.Cond.methodLink "CoinJudgeLaw" (131 : Nat) ({ cls := "CoinJudgeModel", name := "sign", desc := "(III)I" } : Jvm.MethodName)) ∈ lw_all := lw_g (lw_at lw_m13 97 rfl) rfl
theorem q3127 : (Jvm.Cond.instanceMethod ({ cls := "CoinJudgeModel", name := "sign", desc := "(III)I" } : Jvm.MethodName)) ∈ lw_all := lw_g (lw_at lw_m13 98 rfl) rfl
theorem q3128 : (Jvm.Cond.selects "CoinJudgeModel" ({ cls := "CoinJudgeModel", name := "sign", desc := "(III)I" } : Jvm.MethodName) ({ cls := "CoinJudgeModel", name := "sign", desc := "(III)I" } : Jvm.MethodName)) ∈ lw_all := lw_g (lw_at lw_m13 99 rfl) rfl
theorem q3129 : (Jvm.Cond.code ({ cls := "CoinJudgeModel", name := "sign", desc := "(III)I" } : Jvm.MethodName) prog_27_method_116_code (8 : Nat) (Option.some Jvm.ClassFile.FieldType.int)) ∈ lw_all := lw_g (lw_at lw_m13 100 rfl) rfl
theorem q3130 : (Jvm.Cond.methodLink "CoinJudgeModel" (921 : Nat) ({ cls := "CoinJudgeModel", name := "der", desc := "([I)V" } : Jvm.MethodName)) ∈ lw_all := lw_g (lw_at lw_m13 101 rfl) rfl
theorem q3131 : (Jvm.Cond.privateMethod ({ cls := "CoinJudgeModel", name := "der", desc := "([I)V" } : Jvm.MethodName)) ∈ lw_tbl := lw_at lw_m13 102 rfl
theorem q3132 : (Jvm.Cond.instanceMethod ({ cls := "CoinJudgeModel", name := "der", desc := "([I)V" } : Jvm.MethodName)) ∈ lw_all := lw_g (lw_at lw_m13 103 rfl) rfl
theorem q3133 : (Jvm.Cond.code ({ cls := "CoinJudgeModel", name := "der", desc := "([I)V" } : Jvm.MethodName) prog_27_method_115_code (4 : Nat) (Option.none : Option Jvm.ClassFile.FieldType)) ∈ lw_all := lw_g (lw_at lw_m13 104 rfl) rfl
theorem q3134 : (Jvm.Cond.methodLink "CoinJudgeLaw" (134 : Nat) ({ cls := "CoinJudgeModel", name := "seal", desc := "(I)I" } : Jvm.MethodName)) ∈ lw_all := lw_g (lw_at lw_m13 105 rfl) rfl
theorem q3135 : (Jvm.Cond.instanceMethod ({ cls := "CoinJudgeModel", name := "seal", desc := "(I)I" } : Jvm.MethodName)) ∈ lw_all := lw_g (lw_at lw_m13 106 rfl) rfl
theorem q3136 : (Jvm.Cond.selects "CoinJudgeModel" ({ cls := "CoinJudgeModel", name := "seal", desc := "(I)I" } : Jvm.MethodName) ({ cls := "CoinJudgeModel", name := "seal", desc := "(I)I" } : Jvm.MethodName)) ∈ lw_all := lw_g (lw_at lw_m13 107 rfl) rfl
theorem q3137 : (Jvm.Cond.code ({ cls := "CoinJudgeModel", name := "seal", desc := "(I)I" } : Jvm.MethodName) prog_27_method_118_code (3 : Nat) (Option.some Jvm.ClassFile.FieldType.int)) ∈ lw_all := lw_g (lw_at lw_m13 108 rfl) rfl
theorem q3138 : (Jvm.Cond.methodLink "CoinJudgeLaw" (138 : Nat) ({ cls := "CoinJudgeModel", name := "judge", desc := "()I" } : Jvm.MethodName)) ∈ lw_all := lw_g (lw_at lw_m13 109 rfl) rfl
theorem q3139 : (Jvm.Cond.instanceMethod ({ cls := "CoinJudgeModel", name := "judge", desc := "()I" } : Jvm.MethodName)) ∈ lw_all := lw_g (lw_at lw_m13 110 rfl) rfl
theorem q3140 : (Jvm.Cond.selects "CoinJudgeModel" ({ cls := "CoinJudgeModel", name := "judge", desc := "()I" } : Jvm.MethodName) ({ cls := "CoinJudgeModel", name := "judge", desc := "()I" } : Jvm.MethodName)) ∈ lw_all := lw_g (lw_at lw_m13 111 rfl) rfl
theorem q3141 : (Jvm.Cond.code ({ cls := "CoinJudgeModel", name := "judge", desc := "()I" } : Jvm.MethodName) prog_27_method_120_code (5 : Nat) (Option.some Jvm.ClassFile.FieldType.int)) ∈ lw_all := lw_g (lw_at lw_m13 112 rfl) rfl
theorem q3142 : (Jvm.Cond.methodLink "CoinJudgeModel" (929 : Nat) ({ cls := "CoinJudgeModel", name := "refuse", desc := "(I)I" } : Jvm.MethodName)) ∈ lw_all := lw_g (lw_at lw_m13 113 rfl) rfl
theorem q3143 : (Jvm.Cond.privateMethod ({ cls := "CoinJudgeModel", name := "refuse", desc := "(I)I" } : Jvm.MethodName)) ∈ lw_tbl := lw_at lw_m13 114 rfl
theorem q3144 : (Jvm.Cond.instanceMethod ({ cls := "CoinJudgeModel", name := "refuse", desc := "(I)I" } : Jvm.MethodName)) ∈ lw_all := lw_g (lw_at lw_m13 115 rfl) rfl
theorem q3145 : (Jvm.Cond.code ({ cls := "CoinJudgeModel", name := "refuse", desc := "(I)I" } : Jvm.MethodName) prog_27_method_119_code (2 : Nat) (Option.some Jvm.ClassFile.FieldType.int)) ∈ lw_all := lw_g (lw_at lw_m13 116 rfl) rfl
theorem q3146 : (Jvm.Cond.methodLink "CoinJudgeModel" (932 : Nat) ({ cls := "CoinJudgeModel", name := "findBlock", desc := "([BI)I" } : Jvm.MethodName)) ∈ lw_all := lw_g (lw_at lw_m13 117 rfl) rfl
theorem q3147 : (Jvm.Cond.privateMethod ({ cls := "CoinJudgeModel", name := "findBlock", desc := "([BI)I" } : Jvm.MethodName)) ∈ lw_tbl := lw_at lw_m13 118 rfl
theorem q3148 : (Jvm.Cond.instanceMethod ({ cls := "CoinJudgeModel", name := "findBlock", desc := "([BI)I" } : Jvm.MethodName)) ∈ lw_all := lw_g (lw_at lw_m13 119 rfl) rfl
theorem q3149 : (Jvm.Cond.code ({ cls := "CoinJudgeModel", name := "findBlock", desc := "([BI)I" } : Jvm.MethodName) prog_27_method_46_code (4 : Nat) (Option.some Jvm.ClassFile.FieldType.int)) ∈ lw_all := lw_g (lw_at lw_m13 120 rfl) rfl
theorem q3150 : (Jvm.Cond.methodLink "CoinJudgeModel" (935 : Nat) ({ cls := "CoinJudgeModel", name := "fault", desc := "(LCoinJudgeModel$Parsed;I)I" } : Jvm.MethodName)) ∈ lw_all := lw_g (lw_at lw_m13 121 rfl) rfl
theorem q3151 : (Jvm.Cond.privateMethod ({ cls := "CoinJudgeModel", name := "fault", desc := "(LCoinJudgeModel$Parsed;I)I" } : Jvm.MethodName)) ∈ lw_tbl := lw_at lw_m13 122 rfl
theorem q3152 : (Jvm.Cond.instanceMethod ({ cls := "CoinJudgeModel", name := "fault", desc := "(LCoinJudgeModel$Parsed;I)I" } : Jvm.MethodName)) ∈ lw_all := lw_g (lw_at lw_m13 123 rfl) rfl
theorem q3153 : (Jvm.Cond.code ({ cls := "CoinJudgeModel", name := "fault", desc := "(LCoinJudgeModel$Parsed;I)I" } : Jvm.MethodName) prog_27_method_51_code (8 : Nat) (Option.some Jvm.ClassFile.FieldType.int)) ∈ lw_all := lw_g (lw_at lw_m13 124 rfl) rfl
theorem q3154 : (Jvm.Cond.methodLink "CoinJudgeModel" (438 : Nat) ({ cls := "CoinJudgeModel", name := "middle", desc := "(I)J" } : Jvm.MethodName)) ∈ lw_all := lw_g (lw_at lw_m13 125 rfl) rfl
theorem q3155 : (Jvm.Cond.privateMethod ({ cls := "CoinJudgeModel", name := "middle", desc := "(I)J" } : Jvm.MethodName)) ∈ lw_tbl := lw_at lw_m13 126 rfl
theorem q3156 : (Jvm.Cond.instanceMethod ({ cls := "CoinJudgeModel", name := "middle", desc := "(I)J" } : Jvm.MethodName)) ∈ lw_all := lw_g (lw_at lw_m13 127 rfl) rfl
theorem q3157 : (Jvm.Cond.code ({ cls := "CoinJudgeModel", name := "middle", desc := "(I)J" } : Jvm.MethodName) prog_27_method_40_code (7 : Nat) (Option.some Jvm.ClassFile.FieldType.long)) ∈ lw_all := lw_g (lw_at lw_m13 128 rfl) rfl
theorem q3158 : (Jvm.Cond.methodLink "CoinJudgeModel" (443 : Nat) ({ cls := "CoinJudgeModel", name := "alone", desc := "(LCoinJudgeModel$Parsed;I)I" } : Jvm.MethodName)) ∈ lw_all := lw_g (lw_at lw_m13 129 rfl) rfl
theorem q3159 : (Jvm.Cond.privateMethod ({ cls := "CoinJudgeModel", name := "alone", desc := "(LCoinJudgeModel$Parsed;I)I" } : Jvm.MethodName)) ∈ lw_tbl := lw_at lw_m13 130 rfl
theorem q3160 : (Jvm.Cond.instanceMethod ({ cls := "CoinJudgeModel", name := "alone", desc := "(LCoinJudgeModel$Parsed;I)I" } : Jvm.MethodName)) ∈ lw_all := lw_g (lw_at lw_m13 131 rfl) rfl
theorem q3161 : (Jvm.Cond.code ({ cls := "CoinJudgeModel", name := "alone", desc := "(LCoinJudgeModel$Parsed;I)I" } : Jvm.MethodName) prog_27_method_47_code (10 : Nat) (Option.some Jvm.ClassFile.FieldType.int)) ∈ lw_all := lw_g (lw_at lw_m13 132 rfl) rfl
theorem q3162 : (Jvm.Cond.methodLink "CoinJudgeModel" (413 : Nat) ({ cls := "CoinJudgeModel", name := "isNone", desc := "(LCoinJudgeModel$Parsed;I)Z" } : Jvm.MethodName)) ∈ lw_all := lw_g (lw_at lw_m13 133 rfl) rfl
theorem q3163 : (Jvm.Cond.privateMethod ({ cls := "CoinJudgeModel", name := "isNone", desc := "(LCoinJudgeModel$Parsed;I)Z" } : Jvm.MethodName)) ∈ lw_tbl := lw_at lw_m13 134 rfl
theorem q3164 : (Jvm.Cond.instanceMethod ({ cls := "CoinJudgeModel", name := "isNone", desc := "(LCoinJudgeModel$Parsed;I)Z" } : Jvm.MethodName)) ∈ lw_all := lw_g (lw_at lw_m13 135 rfl) rfl
theorem q3165 : (Jvm.Cond.code ({ cls := "CoinJudgeModel", name := "isNone", desc := "(LCoinJudgeModel$Parsed;I)Z" } : Jvm.MethodName) prog_27_method_45_code (4 : Nat) (Option.some Jvm.ClassFile.FieldType.boolean)) ∈ lw_all := lw_g (lw_at lw_m13 136 rfl) rfl
theorem q3166 : (Jvm.Cond.methodLink "CoinJudgeModel" (447 : Nat) ({ cls := "CoinJudgeModel", name := "asks", desc := "([BII)I" } : Jvm.MethodName)) ∈ lw_all := lw_g (lw_at lw_m13 137 rfl) rfl
theorem q3167 : (Jvm.Cond.privateMethod ({ cls := "CoinJudgeModel", name := "asks", desc := "([BII)I" } : Jvm.MethodName)) ∈ lw_tbl := lw_at lw_m13 138 rfl
theorem q3168 : (Jvm.Cond.instanceMethod ({ cls := "CoinJudgeModel", name := "asks", desc := "([BII)I" } : Jvm.MethodName)) ∈ lw_all := lw_g (lw_at lw_m13 139 rfl) rfl
theorem q3169 : (Jvm.Cond.code ({ cls := "CoinJudgeModel", name := "asks", desc := "([BII)I" } : Jvm.MethodName) prog_27_method_48_code (9 : Nat) (Option.some Jvm.ClassFile.FieldType.int)) ∈ lw_all := lw_g (lw_at lw_m13 140 rfl) rfl
theorem q3170 : (Jvm.Cond.methodLink "CoinJudgeModel" (453 : Nat) ({ cls := "CoinJudgeModel", name := "isLast", desc := "(LCoinJudgeModel$Parsed;IIJ)Z" } : Jvm.MethodName)) ∈ lw_all := lw_g (lw_at lw_m13 141 rfl) rfl
theorem q3171 : (Jvm.Cond.privateMethod ({ cls := "CoinJudgeModel", name := "isLast", desc := "(LCoinJudgeModel$Parsed;IIJ)Z" } : Jvm.MethodName)) ∈ lw_tbl := lw_at lw_m13 142 rfl
theorem q3172 : (Jvm.Cond.instanceMethod ({ cls := "CoinJudgeModel", name := "isLast", desc := "(LCoinJudgeModel$Parsed;IIJ)Z" } : Jvm.MethodName)) ∈ lw_all := lw_g (lw_at lw_m13 143 rfl) rfl
theorem q3173 : (Jvm.Cond.code ({ cls := "CoinJudgeModel", name := "isLast", desc := "(LCoinJudgeModel$Parsed;IIJ)Z" } : Jvm.MethodName) prog_27_method_50_code (10 : Nat) (Option.some Jvm.ClassFile.FieldType.boolean)) ∈ lw_all := lw_g (lw_at lw_m13 144 rfl) rfl
theorem q3174 : (Jvm.Cond.methodLink "CoinJudgeModel" (938 : Nat) ({ cls := "CoinJudgeModel", name := "chain", desc := "(I)I" } : Jvm.MethodName)) ∈ lw_all := lw_g (lw_at lw_m13 145 rfl) rfl
theorem q3175 : (Jvm.Cond.privateMethod ({ cls := "CoinJudgeModel", name := "chain", desc := "(I)I" } : Jvm.MethodName)) ∈ lw_tbl := lw_at lw_m13 146 rfl
theorem q3176 : (Jvm.Cond.instanceMethod ({ cls := "CoinJudgeModel", name := "chain", desc := "(I)I" } : Jvm.MethodName)) ∈ lw_all := lw_g (lw_at lw_m13 147 rfl) rfl
theorem q3177 : (Jvm.Cond.code ({ cls := "CoinJudgeModel", name := "chain", desc := "(I)I" } : Jvm.MethodName) prog_27_method_55_code (6 : Nat) (Option.some Jvm.ClassFile.FieldType.int)) ∈ lw_all := lw_g (lw_at lw_m13 148 rfl) rfl
theorem q3178 : (Jvm.Cond.methodLink "CoinJudgeModel" (493 : Nat) ({ cls := "CoinJudgeModel", name := "isIn", desc := "(II)Z" } : Jvm.MethodName)) ∈ lw_all := lw_g (lw_at lw_m13 149 rfl) rfl
theorem q3179 : (Jvm.Cond.privateMethod ({ cls := "CoinJudgeModel", name := "isIn", desc := "(II)Z" } : Jvm.MethodName)) ∈ lw_tbl := lw_at lw_m13 150 rfl
theorem q3180 : (Jvm.Cond.instanceMethod ({ cls := "CoinJudgeModel", name := "isIn", desc := "(II)Z" } : Jvm.MethodName)) ∈ lw_all := lw_g (lw_at lw_m13 151 rfl) rfl
theorem q3181 : (Jvm.Cond.code ({ cls := "CoinJudgeModel", name := "isIn", desc := "(II)Z" } : Jvm.MethodName) prog_27_method_42_code (4 : Nat) (Option.some Jvm.ClassFile.FieldType.boolean)) ∈ lw_all := lw_g (lw_at lw_m13 152 rfl) rfl
theorem q3182 : (Jvm.Cond.methodLink "CoinJudgeLaw" (141 : Nat) ({ cls := "CoinJudgeModel", name := "tell", desc := "(I)I" } : Jvm.MethodName)) ∈ lw_all := lw_g (lw_at lw_m13 153 rfl) rfl
theorem q3183 : (Jvm.Cond.instanceMethod ({ cls := "CoinJudgeModel", name := "tell", desc := "(I)I" } : Jvm.MethodName)) ∈ lw_all := lw_g (lw_at lw_m13 154 rfl) rfl
theorem q3184 : (Jvm.Cond.selects "CoinJudgeModel" ({ cls := "CoinJudgeModel", name := "tell", desc := "(I)I" } : Jvm.MethodName) ({ cls := "CoinJudgeModel", name := "tell", desc := "(I)I" } : Jvm.MethodName)) ∈ lw_all := lw_g (lw_at lw_m13 155 rfl) rfl
theorem q3185 : (Jvm.Cond.code ({ cls := "CoinJudgeModel", name := "tell", desc := "(I)I" } : Jvm.MethodName) prog_27_method_121_code (2 : Nat) (Option.some Jvm.ClassFile.FieldType.int)) ∈ lw_all := lw_g (lw_at lw_m13 156 rfl) rfl
theorem q3186 : (Jvm.Cond.methodLink "CoinJudgeLaw" (144 : Nat) ({ cls := "CoinJudgeModel", name := "block", desc := "(II)J" } : Jvm.MethodName)) ∈ lw_all := lw_g (lw_at lw_m13 157 rfl) rfl
theorem q3187 : (Jvm.Cond.instanceMethod ({ cls := "CoinJudgeModel", name := "block", desc := "(II)J" } : Jvm.MethodName)) ∈ lw_all := lw_g (lw_at lw_m13 158 rfl) rfl
theorem q3188 : (Jvm.Cond.selects "CoinJudgeModel" ({ cls := "CoinJudgeModel", name := "block", desc := "(II)J" } : Jvm.MethodName) ({ cls := "CoinJudgeModel", name := "block", desc := "(II)J" } : Jvm.MethodName)) ∈ lw_all := lw_g (lw_at lw_m13 159 rfl) rfl
theorem q3189 : (Jvm.Cond.code ({ cls := "CoinJudgeModel", name := "block", desc := "(II)J" } : Jvm.MethodName) prog_27_method_122_code (4 : Nat) (Option.some Jvm.ClassFile.FieldType.long)) ∈ lw_all := lw_g (lw_at lw_m13 160 rfl) rfl
theorem q3190 : (Jvm.Cond.methodLink "CoinJudgeLaw" (147 : Nat) ({ cls := "CoinJudgeModel", name := "coin", desc := "(III)J" } : Jvm.MethodName)) ∈ lw_all := lw_g (lw_at lw_m13 161 rfl) rfl
theorem q3191 : (Jvm.Cond.instanceMethod ({ cls := "CoinJudgeModel", name := "coin", desc := "(III)J" } : Jvm.MethodName)) ∈ lw_all := lw_g (lw_at lw_m13 162 rfl) rfl
theorem q3192 : (Jvm.Cond.selects "CoinJudgeModel" ({ cls := "CoinJudgeModel", name := "coin", desc := "(III)J" } : Jvm.MethodName) ({ cls := "CoinJudgeModel", name := "coin", desc := "(III)J" } : Jvm.MethodName)) ∈ lw_all := lw_g (lw_at lw_m13 163 rfl) rfl
theorem q3193 : (Jvm.Cond.code ({ cls := "CoinJudgeModel", name := "coin", desc := "(III)J" } : Jvm.MethodName) prog_27_method_123_code (5 : Nat) (Option.some Jvm.ClassFile.FieldType.long)) ∈ lw_all := lw_g (lw_at lw_m13 164 rfl) rfl
theorem q3194 : (Jvm.Cond.methodLink "CoinJudgeLaw" (152 : Nat) ({ cls := "CoinJudgeModel", name := "coins", desc := "()J" } : Jvm.MethodName)) ∈ lw_all := lw_g (lw_at lw_m13 165 rfl) rfl
theorem q3195 : (Jvm.Cond.instanceMethod ({ cls := "CoinJudgeModel", name := "coins", desc := "()J" } : Jvm.MethodName)) ∈ lw_all := lw_g (lw_at lw_m13 166 rfl) rfl
theorem q3196 : (Jvm.Cond.selects "CoinJudgeModel" ({ cls := "CoinJudgeModel", name := "coins", desc := "()J" } : Jvm.MethodName) ({ cls := "CoinJudgeModel", name := "coins", desc := "()J" } : Jvm.MethodName)) ∈ lw_all := lw_g (lw_at lw_m13 167 rfl) rfl
theorem q3197 : (Jvm.Cond.code ({ cls := "CoinJudgeModel", name := "coins", desc := "()J" } : Jvm.MethodName) prog_27_method_124_code (4 : Nat) (Option.some Jvm.ClassFile.FieldType.long)) ∈ lw_all := lw_g (lw_at lw_m13 168 rfl) rfl
theorem q3198 : (Jvm.Cond.methodLink "CoinJudgeLaw" (155 : Nat) ({ cls := "CoinJudgeModel", name := "word", desc := "(I)J" } : Jvm.MethodName)) ∈ lw_all := lw_g (lw_at lw_m13 169 rfl) rfl
theorem q3199 : (Jvm.Cond.instanceMethod ({ cls := "CoinJudgeModel", name := "word", desc := "(I)J" } : Jvm.MethodName)) ∈ lw_all := lw_g (lw_at lw_m13 170 rfl) rfl
theorem q3200 : (Jvm.Cond.selects "CoinJudgeModel" ({ cls := "CoinJudgeModel", name := "word", desc := "(I)J" } : Jvm.MethodName) ({ cls := "CoinJudgeModel", name := "word", desc := "(I)J" } : Jvm.MethodName)) ∈ lw_all := lw_g (lw_at lw_m13 171 rfl) rfl
theorem q3201 : (Jvm.Cond.code ({ cls := "CoinJudgeModel", name := "word", desc := "(I)J" } : Jvm.MethodName) prog_27_method_125_code (5 : Nat) (Option.some Jvm.ClassFile.FieldType.long)) ∈ lw_all := lw_g (lw_at lw_m13 172 rfl) rfl
theorem q3202 : (Jvm.Cond.constantLong "CoinJudgeModel" (941 : Nat) (255 : Int64)) ∈ lw_all := lw_g (lw_at lw_m13 173 rfl) rfl
theorem q3203 : (Jvm.Cond.constantLong "CoinJudgeLaw" (107 : Nat) (4294967295 : Int64)) ∈ lw_all := lw_g (lw_at lw_m13 174 rfl) rfl
theorem q3204 : (Jvm.Cond.sameMethod "java/lang/Throwable" "java/lang/Throwable" "fillInStackTrace" "(I)Ljava/lang/Throwable;") ∈ lw_all := lw_g (lw_at lw_m13 175 rfl) rfl
theorem q3205 : (Jvm.Cond.castable "java/lang/ArrayIndexOutOfBoundsException" "java/lang/IndexOutOfBoundsException") ∈ lw_tbl := lw_at lw_m13 176 rfl
theorem q3206 : (Jvm.Cond.castable "CoinJudge$Coin" "CoinJudge$Coin") ∈ lw_tbl := lw_at lw_m13 177 rfl
theorem q3207 : (Jvm.Cond.sameMethod "[Ljava/lang/Object;" "java/lang/Object" "getClass" "()Ljava/lang/Class;") ∈ lw_all := lw_g (lw_at lw_m13 178 rfl) rfl
theorem q3208 : (Jvm.Cond.selects "[Ljava/lang/Object;" ({ cls := "java/lang/Object", name := "getClass", desc := "()Ljava/lang/Class;" } : Jvm.MethodName) ({ cls := "java/lang/Object", name := "getClass", desc := "()Ljava/lang/Class;" } : Jvm.MethodName)) ∈ lw_all := lw_g (lw_at lw_m13 179 rfl) rfl
theorem q3209 : (Jvm.Cond.declares ({ cls := "java/lang/Object", name := "getClass", desc := "()Ljava/lang/Class;" } : Jvm.MethodName)) ∈ lw_tbl := lw_at lw_m13 180 rfl
theorem q3210 : (Jvm.Cond.castable "CoinJudge" "java/lang/Object") ∈ lw_tbl := lw_at lw_m13 181 rfl
theorem q3211 : (Jvm.Cond.castable "CoinJudge$Digests" "java/lang/Object") ∈ lw_tbl := lw_at lw_m13 182 rfl
theorem q3212 : (Jvm.Cond.castable "CoinJudge$Curve" "java/lang/Object") ∈ lw_tbl := lw_at lw_m13 183 rfl
theorem q3213 : (Jvm.Cond.castable "CoinJudge$Ring" "java/lang/Object") ∈ lw_tbl := lw_at lw_m13 184 rfl
theorem q3214 : (Jvm.Cond.castable "CoinJudge$Big" "java/lang/Object") ∈ lw_tbl := lw_at lw_m13 185 rfl
theorem q3215 : (Jvm.Cond.castable "CoinJudge$Point" "java/lang/Object") ∈ lw_tbl := lw_at lw_m13 186 rfl
theorem q3216 : (Jvm.Cond.castable "CoinJudge$Machine" "java/lang/Object") ∈ lw_tbl := lw_at lw_m13 187 rfl
theorem q3217 : (Jvm.Cond.castable "CoinJudge$Signing" "java/lang/Object") ∈ lw_tbl := lw_at lw_m13 188 rfl
theorem q3218 : (Jvm.Cond.castable "CoinJudge$Coins" "java/lang/Object") ∈ lw_tbl := lw_at lw_m13 189 rfl
theorem q3219 : (Jvm.Cond.castable "CoinJudge$Draft" "java/lang/Object") ∈ lw_tbl := lw_at lw_m13 190 rfl
theorem q3220 : (Jvm.Cond.castable "CoinJudge$Sink" "java/lang/Object") ∈ lw_tbl := lw_at lw_m13 191 rfl
theorem q3221 : (Jvm.Cond.castable "CoinJudge$DraftTx" "java/lang/Object") ∈ lw_tbl := lw_at lw_m13 192 rfl
theorem q3222 : (Jvm.Cond.castable "CoinJudge$DraftInput" "java/lang/Object") ∈ lw_tbl := lw_at lw_m13 193 rfl
theorem q3223 : (Jvm.Cond.castable "java/lang/IndexOutOfBoundsException" "java/lang/Object") ∈ lw_tbl := lw_at lw_m13 194 rfl
theorem q3224 : (Jvm.Cond.castable "CoinJudge$DraftOutput" "java/lang/Object") ∈ lw_tbl := lw_at lw_m13 195 rfl
theorem q3225 : (Jvm.Cond.castable "CoinJudge$Block" "java/lang/Object") ∈ lw_tbl := lw_at lw_m13 196 rfl
theorem q3226 : (Jvm.Cond.castable "java/util/ArrayList" "java/lang/Object") ∈ lw_tbl := lw_at lw_m13 197 rfl
theorem q3227 : (Jvm.Cond.castable "CoinJudge$Source" "java/lang/Object") ∈ lw_tbl := lw_at lw_m13 198 rfl
theorem q3228 : (Jvm.Cond.castable "CoinJudge$Broken" "java/lang/Object") ∈ lw_tbl := lw_at lw_m13 199 rfl
theorem q3229 : (Jvm.Cond.castable "CoinJudge$Tx" "java/lang/Object") ∈ lw_tbl := lw_at lw_m13 200 rfl
theorem q3230 : (Jvm.Cond.castable "CoinJudge$Input" "java/lang/Object") ∈ lw_tbl := lw_at lw_m13 201 rfl
theorem q3231 : (Jvm.Cond.castable "CoinJudge$Output" "java/lang/Object") ∈ lw_tbl := lw_at lw_m13 202 rfl
theorem q3232 : (Jvm.Cond.castable "CoinJudge$Refused" "java/lang/Object") ∈ lw_tbl := lw_at lw_m13 203 rfl
theorem q3233 : (Jvm.Cond.castable "CoinJudge$Element" "java/lang/Object") ∈ lw_tbl := lw_at lw_m13 204 rfl
theorem q3234 : (Jvm.Cond.castable "CoinJudge$Coin" "java/lang/Object") ∈ lw_tbl := lw_at lw_m13 205 rfl
theorem q3235 : (Jvm.Cond.castable "CoinJudgeModel" "java/lang/Object") ∈ lw_tbl := lw_at lw_m13 206 rfl
theorem q3236 : (Jvm.Cond.castable "CoinJudgeModel$Point" "java/lang/Object") ∈ lw_tbl := lw_at lw_m13 207 rfl
theorem q3237 : (Jvm.Cond.castable "CoinJudgeModel$Parsed" "java/lang/Object") ∈ lw_tbl := lw_at lw_m13 208 rfl
theorem q3238 : (Jvm.Cond.castable "CoinJudgeModel$Ring" "java/lang/Object") ∈ lw_tbl := lw_at lw_m13 209 rfl
theorem q3239 : (Jvm.Cond.castable "CoinJudgeModel$Block" "java/lang/Object") ∈ lw_tbl := lw_at lw_m13 210 rfl
theorem q3240 : (Jvm.Cond.castable "java/lang/ArrayIndexOutOfBoundsException" "java/lang/Object") ∈ lw_tbl := lw_at lw_m13 211 rfl
theorem q3241 : (Jvm.Cond.castable "java/lang/IllegalArgumentException" "java/lang/Object") ∈ lw_tbl := lw_at lw_m13 212 rfl
theorem q3242 : (Jvm.Cond.castable "java/lang/IllegalStateException" "java/lang/Object") ∈ lw_tbl := lw_at lw_m13 213 rfl
theorem q3243 : (Jvm.Cond.castable "java/lang/UnsupportedOperationException" "java/lang/Object") ∈ lw_tbl := lw_at lw_m13 214 rfl
theorem q3244 : (Jvm.Cond.castable "java/lang/Throwable" "java/lang/Object") ∈ lw_tbl := lw_at lw_m13 215 rfl
theorem q3245 : (Jvm.Cond.castable "java/lang/String" "java/lang/Object") ∈ lw_tbl := lw_at lw_m13 216 rfl
theorem q3246 : (Jvm.Cond.castable "CoinJudge$State" "java/lang/Object") ∈ lw_tbl := lw_at lw_m13 217 rfl
theorem q3247 : (Jvm.Cond.castable "[I" "java/lang/Object") ∈ lw_tbl := lw_at lw_m13 218 rfl
theorem q3248 : (Jvm.Cond.castable "[B" "java/lang/Object") ∈ lw_tbl := lw_at lw_m13 219 rfl
theorem q3249 : (Jvm.Cond.castable "[LCoinJudge$Element;" "java/lang/Object") ∈ lw_tbl := lw_at lw_m13 220 rfl
theorem q3250 : (Jvm.Cond.castable "[Z" "java/lang/Object") ∈ lw_tbl := lw_at lw_m13 221 rfl
theorem q3251 : (Jvm.Cond.castable "[LCoinJudge$Coin;" "java/lang/Object") ∈ lw_tbl := lw_at lw_m13 222 rfl
theorem q3252 : (Jvm.Cond.castable "[LCoinJudge$Block;" "java/lang/Object") ∈ lw_tbl := lw_at lw_m13 223 rfl
theorem q3253 : (Jvm.Cond.castable "[LCoinJudge$DraftTx;" "java/lang/Object") ∈ lw_tbl := lw_at lw_m13 224 rfl
theorem q3254 : (Jvm.Cond.castable "[LCoinJudge$DraftInput;" "java/lang/Object") ∈ lw_tbl := lw_at lw_m13 225 rfl
theorem q3255 : (Jvm.Cond.castable "[LCoinJudge$DraftOutput;" "java/lang/Object") ∈ lw_tbl := lw_at lw_m13 226 rfl
theorem q3256 : (Jvm.Cond.castable "[J" "java/lang/Object") ∈ lw_tbl := lw_at lw_m13 227 rfl
theorem q3257 : (Jvm.Cond.castable "[LCoinJudge$Tx;" "java/lang/Object") ∈ lw_tbl := lw_at lw_m13 228 rfl
theorem q3258 : (Jvm.Cond.castable "[LCoinJudge$Input;" "java/lang/Object") ∈ lw_tbl := lw_at lw_m13 229 rfl
theorem q3259 : (Jvm.Cond.castable "[LCoinJudge$Output;" "java/lang/Object") ∈ lw_tbl := lw_at lw_m13 230 rfl
theorem q3260 : (Jvm.Cond.castable "[Ljava/lang/Object;" "java/lang/Object") ∈ lw_tbl := lw_at lw_m13 231 rfl
theorem q3261 : (Jvm.Cond.castable "[LCoinJudgeModel$Block;" "java/lang/Object") ∈ lw_tbl := lw_at lw_m13 232 rfl
theorem q3262 : (Jvm.Cond.castable "[[B" "java/lang/Object") ∈ lw_tbl := lw_at lw_m13 233 rfl
theorem q3263 : (Jvm.Cond.fieldLink "java/lang/String" (9 : Nat) "java/lang/String" "value" "[B") ∈ lw_all := lw_g (lw_at lw_m13 234 rfl) rfl
theorem q3264 : (Jvm.Cond.fieldLink "java/lang/String" (15 : Nat) "java/lang/String" "coder" "B") ∈ lw_all := lw_g (lw_at lw_m13 235 rfl) rfl
theorem q3265 : (Jvm.Cond.fieldLink "java/lang/Enum" (7 : Nat) "java/lang/Enum" "ordinal" "I") ∈ lw_all := lw_g (lw_at lw_m13 236 rfl) rfl
