set_option maxRecDepth 100000
theorem q162 : (Jvm.Cond.initialized "EchoFairLaw") ∈ lw_all := lw_g (lw_at lw_m1 0 rfl) rfl
theorem q231 : (Jvm.Cond.classLink "EchoFairLaw" (8 : Nat) "EchoFair") ∈ lw_all := lw_g (lw_at lw_m1 69 rfl) rfl
theorem q233 : (Jvm.Cond.methodLink "EchoFairLaw" (143 : Nat) ({ cls := "EchoFair", name := "<init>", desc := "()V" } : Jvm.MethodName)) ∈ lw_all := lw_g (lw_at lw_m1 71 rfl) rfl
theorem q1487 : (Jvm.Cond.methodLink "EchoFairLaw" (167 : Nat) ({ cls := "EchoFair", name := "errorCode", desc := "()I" } : Jvm.MethodName)) ∈ lw_all := lw_g (lw_at lw_m6 125 rfl) rfl
theorem q1491 : (Jvm.Cond.methodLink "EchoFairLaw" (171 : Nat) ({ cls := "EchoFair", name := "errorPosition", desc := "()I" } : Jvm.MethodName)) ∈ lw_all := lw_g (lw_at lw_m6 129 rfl) rfl
theorem q1495 : (Jvm.Cond.methodLink "EchoFairLaw" (175 : Nat) ({ cls := "EchoFair", name := "echoCount", desc := "()I" } : Jvm.MethodName)) ∈ lw_all := lw_g (lw_at lw_m6 133 rfl) rfl
theorem q1508 : (Jvm.Cond.methodLink "EchoFairLaw" (179 : Nat) ({ cls := "EchoFair", name := "valleyCount", desc := "()I" } : Jvm.MethodName)) ∈ lw_all := lw_g (lw_at lw_m6 146 rfl) rfl
theorem q1512 : (Jvm.Cond.methodLink "EchoFairLaw" (183 : Nat) ({ cls := "EchoFair", name := "day", desc := "()I" } : Jvm.MethodName)) ∈ lw_all := lw_g (lw_at lw_m6 150 rfl) rfl
theorem q1516 : (Jvm.Cond.methodLink "EchoFairLaw" (187 : Nat) ({ cls := "EchoFair", name := "seasonLength", desc := "()I" } : Jvm.MethodName)) ∈ lw_all := lw_g (lw_at lw_m6 154 rfl) rfl
theorem q1520 : (Jvm.Cond.methodLink "EchoFairLaw" (194 : Nat) ({ cls := "EchoFair", name := "findEcho", desc := "()I" } : Jvm.MethodName)) ∈ lw_all := lw_g (lw_at lw_m6 158 rfl) rfl
theorem q1555 : (Jvm.Cond.methodLink "EchoFairLaw" (198 : Nat) ({ cls := "EchoFair", name := "findValley", desc := "()I" } : Jvm.MethodName)) ∈ lw_all := lw_g (lw_at lw_m6 193 rfl) rfl
theorem q1564 : (Jvm.Cond.methodLink "EchoFairLaw" (257 : Nat) ({ cls := "EchoFair", name := "blockingPairs", desc := "()I" } : Jvm.MethodName)) ∈ lw_all := lw_g (lw_at lw_m6 202 rfl) rfl
theorem q2024 : (Jvm.Cond.methodLink "EchoFairLaw" (279 : Nat) ({ cls := "EchoFair", name := "richestEcho", desc := "()I" } : Jvm.MethodName)) ∈ lw_all := lw_g (lw_at lw_m8 182 rfl) rfl
theorem q2028 : (Jvm.Cond.methodLink "EchoFairLaw" (286 : Nat) ({ cls := "EchoFair", name := "contractsMade", desc := "()I" } : Jvm.MethodName)) ∈ lw_all := lw_g (lw_at lw_m8 186 rfl) rfl
theorem q2032 : (Jvm.Cond.methodLink "EchoFairLaw" (290 : Nat) ({ cls := "EchoFair", name := "contractsEnded", desc := "()I" } : Jvm.MethodName)) ∈ lw_all := lw_g (lw_at lw_m8 190 rfl) rfl
theorem q2036 : (Jvm.Cond.methodLink "EchoFairLaw" (303 : Nat) ({ cls := "EchoFair", name := "moneyImbalance", desc := "()I" } : Jvm.MethodName)) ∈ lw_all := lw_g (lw_at lw_m8 194 rfl) rfl
theorem q2179 : (Jvm.Cond.methodLink "EchoFairLaw" (307 : Nat) ({ cls := "EchoFair", name := "contractImbalance", desc := "()I" } : Jvm.MethodName)) ∈ lw_all := lw_g (lw_at lw_m9 97 rfl) rfl
theorem q2187 : (Jvm.Cond.methodLink "EchoFairLaw" (311 : Nat) ({ cls := "EchoFair", name := "doubleServants", desc := "()I" } : Jvm.MethodName)) ∈ lw_all := lw_g (lw_at lw_m9 105 rfl) rfl
theorem q2195 : (Jvm.Cond.methodLink "EchoFairLaw" (315 : Nat) ({ cls := "EchoFair", name := "meanSavings", desc := "()D" } : Jvm.MethodName)) ∈ lw_all := lw_g (lw_at lw_m9 113 rfl) rfl
theorem q2199 : (Jvm.Cond.methodLink "EchoFairLaw" (320 : Nat) ({ cls := "EchoFair", name := "employmentRate", desc := "()F" } : Jvm.MethodName)) ∈ lw_all := lw_g (lw_at lw_m9 117 rfl) rfl
theorem q2203 : (Jvm.Cond.methodLink "EchoFairLaw" (328 : Nat) ({ cls := "EchoFair", name := "holdFair", desc := "()I" } : Jvm.MethodName)) ∈ lw_all := lw_g (lw_at lw_m9 121 rfl) rfl
theorem q2951 : (Jvm.Cond.methodLink "EchoFairLaw" (350 : Nat) ({ cls := "EchoFair", name := "save", desc := "()I" } : Jvm.MethodName)) ∈ lw_all := lw_g (lw_at lw_m12 149 rfl) rfl
theorem q2955 : (Jvm.Cond.methodLink "EchoFairLaw" (357 : Nat) ({ cls := "EchoFair", name := "formatContracts", desc := "()I" } : Jvm.MethodName)) ∈ lw_all := lw_g (lw_at lw_m12 153 rfl) rfl
theorem q3029 : (Jvm.Cond.methodLink "EchoFairLaw" (361 : Nat) ({ cls := "EchoFair", name := "outputByte", desc := "(I)I" } : Jvm.MethodName)) ∈ lw_all := lw_g (lw_at lw_m12 227 rfl) rfl
theorem q3034 : (Jvm.Cond.methodLink "EchoFairLaw" (147 : Nat) ({ cls := "EchoFairLaw", name := "append", desc := "(LEchoFair;IIIII[J)I" } : Jvm.MethodName)) ∈ lw_all := lw_g (lw_at lw_m12 232 rfl) rfl
theorem q3035 : (Jvm.Cond.static ({ cls := "EchoFairLaw", name := "append", desc := "(LEchoFair;IIIII[J)I" } : Jvm.MethodName)) ∈ lw_all := lw_g (lw_at lw_m12 233 rfl) rfl
theorem q3036 : (Jvm.Cond.codeWith ({ cls := "EchoFairLaw", name := "append", desc := "(LEchoFair;IIIII[J)I" } : Jvm.MethodName) method_3_code (8 : Nat) (Option.some Jvm.ClassFile.FieldType.int) [((0 : Nat), (16 : Nat), (19 : Nat), (13 : Nat))]) ∈ lw_all := lw_g (lw_at lw_m12 234 rfl) rfl
theorem q3037 : (Jvm.Cond.classLink "EchoFairLaw" (13 : Nat) "java/lang/IllegalStateException") ∈ lw_all := lw_g (lw_at lw_m12 235 rfl) rfl
theorem q3038 : (Jvm.Cond.methodLink "EchoFairLaw" (7 : Nat) ({ cls := "EchoFair", name := "append", desc := "(IIIII)I" } : Jvm.MethodName)) ∈ lw_all := lw_g (lw_at lw_m12 236 rfl) rfl
theorem q3060 : (Jvm.Cond.methodLink "EchoFairLaw" (156 : Nat) ({ cls := "EchoFairLaw", name := "truncate", desc := "(LEchoFair;I[J)I" } : Jvm.MethodName)) ∈ lw_all := lw_g (lw_at lw_m13 18 rfl) rfl
theorem q3061 : (Jvm.Cond.static ({ cls := "EchoFairLaw", name := "truncate", desc := "(LEchoFair;I[J)I" } : Jvm.MethodName)) ∈ lw_all := lw_g (lw_at lw_m13 19 rfl) rfl
theorem q3062 : (Jvm.Cond.codeWith ({ cls := "EchoFairLaw", name := "truncate", desc := "(LEchoFair;I[J)I" } : Jvm.MethodName) method_4_code (4 : Nat) (Option.some Jvm.ClassFile.FieldType.int) [((0 : Nat), (9 : Nat), (12 : Nat), (19 : Nat))]) ∈ lw_all := lw_g (lw_at lw_m13 20 rfl) rfl
theorem q3063 : (Jvm.Cond.classLink "EchoFairLaw" (19 : Nat) "java/lang/IllegalArgumentException") ∈ lw_all := lw_g (lw_at lw_m13 21 rfl) rfl
theorem q3064 : (Jvm.Cond.methodLink "EchoFairLaw" (15 : Nat) ({ cls := "EchoFair", name := "truncate", desc := "(I)I" } : Jvm.MethodName)) ∈ lw_all := lw_g (lw_at lw_m13 22 rfl) rfl
theorem q3076 : (Jvm.Cond.methodLink "EchoFairLaw" (160 : Nat) ({ cls := "EchoFairLaw", name := "load", desc := "(LEchoFair;[J)I" } : Jvm.MethodName)) ∈ lw_all := lw_g (lw_at lw_m13 34 rfl) rfl
theorem q3077 : (Jvm.Cond.static ({ cls := "EchoFairLaw", name := "load", desc := "(LEchoFair;[J)I" } : Jvm.MethodName)) ∈ lw_all := lw_g (lw_at lw_m13 35 rfl) rfl
theorem q3078 : (Jvm.Cond.codeWith ({ cls := "EchoFairLaw", name := "load", desc := "(LEchoFair;[J)I" } : Jvm.MethodName) method_5_code (3 : Nat) (Option.some Jvm.ClassFile.FieldType.int) [((0 : Nat), (8 : Nat), (11 : Nat), (19 : Nat))]) ∈ lw_all := lw_g (lw_at lw_m13 36 rfl) rfl
theorem q3079 : (Jvm.Cond.methodLink "EchoFairLaw" (21 : Nat) ({ cls := "EchoFair", name := "load", desc := "()I" } : Jvm.MethodName)) ∈ lw_all := lw_g (lw_at lw_m13 37 rfl) rfl
theorem q3276 : (Jvm.Cond.methodLink "EchoFairLaw" (164 : Nat) ({ cls := "EchoFairLaw", name := "executeCommands", desc := "(LEchoFair;[J)I" } : Jvm.MethodName)) ∈ lw_all := lw_g (lw_at lw_m13 234 rfl) rfl
theorem q3277 : (Jvm.Cond.static ({ cls := "EchoFairLaw", name := "executeCommands", desc := "(LEchoFair;[J)I" } : Jvm.MethodName)) ∈ lw_all := lw_g (lw_at lw_m13 235 rfl) rfl
theorem q3278 : (Jvm.Cond.codeWith ({ cls := "EchoFairLaw", name := "executeCommands", desc := "(LEchoFair;[J)I" } : Jvm.MethodName) method_6_code (3 : Nat) (Option.some Jvm.ClassFile.FieldType.int) [((0 : Nat), (8 : Nat), (11 : Nat), (19 : Nat))]) ∈ lw_all := lw_g (lw_at lw_m13 236 rfl) rfl
theorem q3279 : (Jvm.Cond.methodLink "EchoFairLaw" (25 : Nat) ({ cls := "EchoFair", name := "executeCommands", desc := "()I" } : Jvm.MethodName)) ∈ lw_all := lw_g (lw_at lw_m13 237 rfl) rfl
theorem q3458 : (Jvm.Cond.methodLink "EchoFairLaw" (191 : Nat) ({ cls := "EchoFairLaw", name := "fogOf", desc := "(LEchoFair;I[J)I" } : Jvm.MethodName)) ∈ lw_all := lw_g (lw_at lw_m14 176 rfl) rfl
theorem q3459 : (Jvm.Cond.static ({ cls := "EchoFairLaw", name := "fogOf", desc := "(LEchoFair;I[J)I" } : Jvm.MethodName)) ∈ lw_all := lw_g (lw_at lw_m14 177 rfl) rfl
theorem q3460 : (Jvm.Cond.codeWith ({ cls := "EchoFairLaw", name := "fogOf", desc := "(LEchoFair;I[J)I" } : Jvm.MethodName) method_7_code (4 : Nat) (Option.some Jvm.ClassFile.FieldType.int) [((0 : Nat), (9 : Nat), (12 : Nat), (19 : Nat))]) ∈ lw_all := lw_g (lw_at lw_m14 178 rfl) rfl
theorem q3461 : (Jvm.Cond.methodLink "EchoFairLaw" (28 : Nat) ({ cls := "EchoFair", name := "fogOf", desc := "(I)I" } : Jvm.MethodName)) ∈ lw_all := lw_g (lw_at lw_m14 179 rfl) rfl
theorem q3467 : (Jvm.Cond.methodLink "EchoFairLaw" (202 : Nat) ({ cls := "EchoFairLaw", name := "delayOf", desc := "(LEchoFair;I[J)I" } : Jvm.MethodName)) ∈ lw_all := lw_g (lw_at lw_m14 185 rfl) rfl
theorem q3468 : (Jvm.Cond.static ({ cls := "EchoFairLaw", name := "delayOf", desc := "(LEchoFair;I[J)I" } : Jvm.MethodName)) ∈ lw_all := lw_g (lw_at lw_m14 186 rfl) rfl
theorem q3469 : (Jvm.Cond.codeWith ({ cls := "EchoFairLaw", name := "delayOf", desc := "(LEchoFair;I[J)I" } : Jvm.MethodName) method_8_code (4 : Nat) (Option.some Jvm.ClassFile.FieldType.int) [((0 : Nat), (9 : Nat), (12 : Nat), (34 : Nat))]) ∈ lw_all := lw_g (lw_at lw_m14 187 rfl) rfl
theorem q3470 : (Jvm.Cond.classLink "EchoFairLaw" (34 : Nat) "java/lang/IndexOutOfBoundsException") ∈ lw_all := lw_g (lw_at lw_m14 188 rfl) rfl
theorem q3473 : (Jvm.Cond.methodLink "EchoFairLaw" (31 : Nat) ({ cls := "EchoFair", name := "delayOf", desc := "(I)I" } : Jvm.MethodName)) ∈ lw_all := lw_g (lw_at lw_m14 191 rfl) rfl
theorem q3499 : (Jvm.Cond.methodLink "EchoFairLaw" (205 : Nat) ({ cls := "EchoFairLaw", name := "repeatsOf", desc := "(LEchoFair;I[J)I" } : Jvm.MethodName)) ∈ lw_all := lw_g (lw_at lw_m14 217 rfl) rfl
theorem q3500 : (Jvm.Cond.static ({ cls := "EchoFairLaw", name := "repeatsOf", desc := "(LEchoFair;I[J)I" } : Jvm.MethodName)) ∈ lw_all := lw_g (lw_at lw_m14 218 rfl) rfl
theorem q3501 : (Jvm.Cond.codeWith ({ cls := "EchoFairLaw", name := "repeatsOf", desc := "(LEchoFair;I[J)I" } : Jvm.MethodName) method_9_code (4 : Nat) (Option.some Jvm.ClassFile.FieldType.int) [((0 : Nat), (9 : Nat), (12 : Nat), (34 : Nat))]) ∈ lw_all := lw_g (lw_at lw_m14 219 rfl) rfl
theorem q3502 : (Jvm.Cond.methodLink "EchoFairLaw" (36 : Nat) ({ cls := "EchoFair", name := "repeatsOf", desc := "(I)I" } : Jvm.MethodName)) ∈ lw_all := lw_g (lw_at lw_m14 220 rfl) rfl
theorem q3506 : (Jvm.Cond.methodLink "EchoFairLaw" (208 : Nat) ({ cls := "EchoFairLaw", name := "reserveWage", desc := "(LEchoFair;I[J)I" } : Jvm.MethodName)) ∈ lw_all := lw_g (lw_at lw_m14 224 rfl) rfl
theorem q3507 : (Jvm.Cond.static ({ cls := "EchoFairLaw", name := "reserveWage", desc := "(LEchoFair;I[J)I" } : Jvm.MethodName)) ∈ lw_all := lw_g (lw_at lw_m14 225 rfl) rfl
theorem q3508 : (Jvm.Cond.codeWith ({ cls := "EchoFairLaw", name := "reserveWage", desc := "(LEchoFair;I[J)I" } : Jvm.MethodName) method_10_code (4 : Nat) (Option.some Jvm.ClassFile.FieldType.int) [((0 : Nat), (9 : Nat), (12 : Nat), (34 : Nat))]) ∈ lw_all := lw_g (lw_at lw_m14 226 rfl) rfl
theorem q3509 : (Jvm.Cond.methodLink "EchoFairLaw" (39 : Nat) ({ cls := "EchoFair", name := "reserveWage", desc := "(I)I" } : Jvm.MethodName)) ∈ lw_all := lw_g (lw_at lw_m14 227 rfl) rfl
theorem q3513 : (Jvm.Cond.methodLink "EchoFairLaw" (211 : Nat) ({ cls := "EchoFairLaw", name := "resistanceOf", desc := "(LEchoFair;I[J)I" } : Jvm.MethodName)) ∈ lw_all := lw_g (lw_at lw_m14 231 rfl) rfl
theorem q3514 : (Jvm.Cond.static ({ cls := "EchoFairLaw", name := "resistanceOf", desc := "(LEchoFair;I[J)I" } : Jvm.MethodName)) ∈ lw_all := lw_g (lw_at lw_m14 232 rfl) rfl
theorem q3515 : (Jvm.Cond.codeWith ({ cls := "EchoFairLaw", name := "resistanceOf", desc := "(LEchoFair;I[J)I" } : Jvm.MethodName) method_11_code (4 : Nat) (Option.some Jvm.ClassFile.FieldType.int) [((0 : Nat), (9 : Nat), (12 : Nat), (34 : Nat))]) ∈ lw_all := lw_g (lw_at lw_m14 233 rfl) rfl
theorem q3516 : (Jvm.Cond.methodLink "EchoFairLaw" (42 : Nat) ({ cls := "EchoFair", name := "resistanceOf", desc := "(I)I" } : Jvm.MethodName)) ∈ lw_all := lw_g (lw_at lw_m14 234 rfl) rfl
theorem q3520 : (Jvm.Cond.methodLink "EchoFairLaw" (214 : Nat) ({ cls := "EchoFairLaw", name := "savingsOf", desc := "(LEchoFair;I[J)I" } : Jvm.MethodName)) ∈ lw_all := lw_g (lw_at lw_m14 238 rfl) rfl
theorem q3521 : (Jvm.Cond.static ({ cls := "EchoFairLaw", name := "savingsOf", desc := "(LEchoFair;I[J)I" } : Jvm.MethodName)) ∈ lw_all := lw_g (lw_at lw_m14 239 rfl) rfl
theorem q3522 : (Jvm.Cond.codeWith ({ cls := "EchoFairLaw", name := "savingsOf", desc := "(LEchoFair;I[J)I" } : Jvm.MethodName) method_12_code (4 : Nat) (Option.some Jvm.ClassFile.FieldType.int) [((0 : Nat), (9 : Nat), (12 : Nat), (34 : Nat))]) ∈ lw_all := lw_g (lw_at lw_m15 0 rfl) rfl
theorem q3523 : (Jvm.Cond.methodLink "EchoFairLaw" (45 : Nat) ({ cls := "EchoFair", name := "savingsOf", desc := "(I)I" } : Jvm.MethodName)) ∈ lw_all := lw_g (lw_at lw_m15 1 rfl) rfl
theorem q3527 : (Jvm.Cond.methodLink "EchoFairLaw" (217 : Nat) ({ cls := "EchoFairLaw", name := "unpaidDays", desc := "(LEchoFair;I[J)I" } : Jvm.MethodName)) ∈ lw_all := lw_g (lw_at lw_m15 5 rfl) rfl
theorem q3528 : (Jvm.Cond.static ({ cls := "EchoFairLaw", name := "unpaidDays", desc := "(LEchoFair;I[J)I" } : Jvm.MethodName)) ∈ lw_all := lw_g (lw_at lw_m15 6 rfl) rfl
theorem q3529 : (Jvm.Cond.codeWith ({ cls := "EchoFairLaw", name := "unpaidDays", desc := "(LEchoFair;I[J)I" } : Jvm.MethodName) method_13_code (4 : Nat) (Option.some Jvm.ClassFile.FieldType.int) [((0 : Nat), (9 : Nat), (12 : Nat), (34 : Nat))]) ∈ lw_all := lw_g (lw_at lw_m15 7 rfl) rfl
theorem q3530 : (Jvm.Cond.methodLink "EchoFairLaw" (48 : Nat) ({ cls := "EchoFair", name := "unpaidDays", desc := "(I)I" } : Jvm.MethodName)) ∈ lw_all := lw_g (lw_at lw_m15 8 rfl) rfl
theorem q3534 : (Jvm.Cond.methodLink "EchoFairLaw" (220 : Nat) ({ cls := "EchoFairLaw", name := "employerOf", desc := "(LEchoFair;I[J)I" } : Jvm.MethodName)) ∈ lw_all := lw_g (lw_at lw_m15 12 rfl) rfl
theorem q3535 : (Jvm.Cond.static ({ cls := "EchoFairLaw", name := "employerOf", desc := "(LEchoFair;I[J)I" } : Jvm.MethodName)) ∈ lw_all := lw_g (lw_at lw_m15 13 rfl) rfl
theorem q3536 : (Jvm.Cond.codeWith ({ cls := "EchoFairLaw", name := "employerOf", desc := "(LEchoFair;I[J)I" } : Jvm.MethodName) method_14_code (4 : Nat) (Option.some Jvm.ClassFile.FieldType.int) [((0 : Nat), (9 : Nat), (12 : Nat), (34 : Nat))]) ∈ lw_all := lw_g (lw_at lw_m15 14 rfl) rfl
theorem q3537 : (Jvm.Cond.methodLink "EchoFairLaw" (51 : Nat) ({ cls := "EchoFair", name := "employerOf", desc := "(I)I" } : Jvm.MethodName)) ∈ lw_all := lw_g (lw_at lw_m15 15 rfl) rfl
theorem q3541 : (Jvm.Cond.methodLink "EchoFairLaw" (223 : Nat) ({ cls := "EchoFairLaw", name := "widthOf", desc := "(LEchoFair;I[J)I" } : Jvm.MethodName)) ∈ lw_all := lw_g (lw_at lw_m15 19 rfl) rfl
theorem q3542 : (Jvm.Cond.static ({ cls := "EchoFairLaw", name := "widthOf", desc := "(LEchoFair;I[J)I" } : Jvm.MethodName)) ∈ lw_all := lw_g (lw_at lw_m15 20 rfl) rfl
theorem q3543 : (Jvm.Cond.codeWith ({ cls := "EchoFairLaw", name := "widthOf", desc := "(LEchoFair;I[J)I" } : Jvm.MethodName) method_15_code (4 : Nat) (Option.some Jvm.ClassFile.FieldType.int) [((0 : Nat), (9 : Nat), (12 : Nat), (34 : Nat))]) ∈ lw_all := lw_g (lw_at lw_m15 21 rfl) rfl
theorem q3544 : (Jvm.Cond.methodLink "EchoFairLaw" (54 : Nat) ({ cls := "EchoFair", name := "widthOf", desc := "(I)I" } : Jvm.MethodName)) ∈ lw_all := lw_g (lw_at lw_m15 22 rfl) rfl
theorem q3552 : (Jvm.Cond.methodLink "EchoFairLaw" (226 : Nat) ({ cls := "EchoFairLaw", name := "postsOf", desc := "(LEchoFair;I[J)I" } : Jvm.MethodName)) ∈ lw_all := lw_g (lw_at lw_m15 30 rfl) rfl
theorem q3553 : (Jvm.Cond.static ({ cls := "EchoFairLaw", name := "postsOf", desc := "(LEchoFair;I[J)I" } : Jvm.MethodName)) ∈ lw_all := lw_g (lw_at lw_m15 31 rfl) rfl
theorem q3554 : (Jvm.Cond.codeWith ({ cls := "EchoFairLaw", name := "postsOf", desc := "(LEchoFair;I[J)I" } : Jvm.MethodName) method_16_code (4 : Nat) (Option.some Jvm.ClassFile.FieldType.int) [((0 : Nat), (9 : Nat), (12 : Nat), (34 : Nat))]) ∈ lw_all := lw_g (lw_at lw_m15 32 rfl) rfl
theorem q3555 : (Jvm.Cond.methodLink "EchoFairLaw" (57 : Nat) ({ cls := "EchoFair", name := "postsOf", desc := "(I)I" } : Jvm.MethodName)) ∈ lw_all := lw_g (lw_at lw_m15 33 rfl) rfl
theorem q3559 : (Jvm.Cond.methodLink "EchoFairLaw" (229 : Nat) ({ cls := "EchoFairLaw", name := "wageOf", desc := "(LEchoFair;I[J)I" } : Jvm.MethodName)) ∈ lw_all := lw_g (lw_at lw_m15 37 rfl) rfl
theorem q3560 : (Jvm.Cond.static ({ cls := "EchoFairLaw", name := "wageOf", desc := "(LEchoFair;I[J)I" } : Jvm.MethodName)) ∈ lw_all := lw_g (lw_at lw_m15 38 rfl) rfl
theorem q3561 : (Jvm.Cond.codeWith ({ cls := "EchoFairLaw", name := "wageOf", desc := "(LEchoFair;I[J)I" } : Jvm.MethodName) method_17_code (4 : Nat) (Option.some Jvm.ClassFile.FieldType.int) [((0 : Nat), (9 : Nat), (12 : Nat), (34 : Nat))]) ∈ lw_all := lw_g (lw_at lw_m15 39 rfl) rfl
theorem q3562 : (Jvm.Cond.methodLink "EchoFairLaw" (60 : Nat) ({ cls := "EchoFair", name := "wageOf", desc := "(I)I" } : Jvm.MethodName)) ∈ lw_all := lw_g (lw_at lw_m15 40 rfl) rfl
theorem q3566 : (Jvm.Cond.methodLink "EchoFairLaw" (232 : Nat) ({ cls := "EchoFairLaw", name := "purseOf", desc := "(LEchoFair;I[J)I" } : Jvm.MethodName)) ∈ lw_all := lw_g (lw_at lw_m15 44 rfl) rfl
theorem q3567 : (Jvm.Cond.static ({ cls := "EchoFairLaw", name := "purseOf", desc := "(LEchoFair;I[J)I" } : Jvm.MethodName)) ∈ lw_all := lw_g (lw_at lw_m15 45 rfl) rfl
theorem q3568 : (Jvm.Cond.codeWith ({ cls := "EchoFairLaw", name := "purseOf", desc := "(LEchoFair;I[J)I" } : Jvm.MethodName) method_18_code (4 : Nat) (Option.some Jvm.ClassFile.FieldType.int) [((0 : Nat), (9 : Nat), (12 : Nat), (34 : Nat))]) ∈ lw_all := lw_g (lw_at lw_m15 46 rfl) rfl
theorem q3569 : (Jvm.Cond.methodLink "EchoFairLaw" (63 : Nat) ({ cls := "EchoFair", name := "purseOf", desc := "(I)I" } : Jvm.MethodName)) ∈ lw_all := lw_g (lw_at lw_m15 47 rfl) rfl
theorem q3573 : (Jvm.Cond.methodLink "EchoFairLaw" (235 : Nat) ({ cls := "EchoFairLaw", name := "staffCount", desc := "(LEchoFair;I[J)I" } : Jvm.MethodName)) ∈ lw_all := lw_g (lw_at lw_m15 51 rfl) rfl
theorem q3574 : (Jvm.Cond.static ({ cls := "EchoFairLaw", name := "staffCount", desc := "(LEchoFair;I[J)I" } : Jvm.MethodName)) ∈ lw_all := lw_g (lw_at lw_m15 52 rfl) rfl
theorem q3575 : (Jvm.Cond.codeWith ({ cls := "EchoFairLaw", name := "staffCount", desc := "(LEchoFair;I[J)I" } : Jvm.MethodName) method_19_code (4 : Nat) (Option.some Jvm.ClassFile.FieldType.int) [((0 : Nat), (9 : Nat), (12 : Nat), (34 : Nat))]) ∈ lw_all := lw_g (lw_at lw_m15 53 rfl) rfl
theorem q3576 : (Jvm.Cond.methodLink "EchoFairLaw" (66 : Nat) ({ cls := "EchoFair", name := "staffCount", desc := "(I)I" } : Jvm.MethodName)) ∈ lw_all := lw_g (lw_at lw_m15 54 rfl) rfl
theorem q3580 : (Jvm.Cond.methodLink "EchoFairLaw" (238 : Nat) ({ cls := "EchoFairLaw", name := "staffMember", desc := "(LEchoFair;II[J)I" } : Jvm.MethodName)) ∈ lw_all := lw_g (lw_at lw_m15 58 rfl) rfl
theorem q3581 : (Jvm.Cond.static ({ cls := "EchoFairLaw", name := "staffMember", desc := "(LEchoFair;II[J)I" } : Jvm.MethodName)) ∈ lw_all := lw_g (lw_at lw_m15 59 rfl) rfl
theorem q3582 : (Jvm.Cond.codeWith ({ cls := "EchoFairLaw", name := "staffMember", desc := "(LEchoFair;II[J)I" } : Jvm.MethodName) method_20_code (5 : Nat) (Option.some Jvm.ClassFile.FieldType.int) [((0 : Nat), (10 : Nat), (13 : Nat), (34 : Nat))]) ∈ lw_all := lw_g (lw_at lw_m15 60 rfl) rfl
theorem q3583 : (Jvm.Cond.methodLink "EchoFairLaw" (69 : Nat) ({ cls := "EchoFair", name := "staffMember", desc := "(II)I" } : Jvm.MethodName)) ∈ lw_all := lw_g (lw_at lw_m15 61 rfl) rfl
theorem q3587 : (Jvm.Cond.methodLink "EchoFairLaw" (242 : Nat) ({ cls := "EchoFairLaw", name := "isTested", desc := "(LEchoFair;II[J)I" } : Jvm.MethodName)) ∈ lw_all := lw_g (lw_at lw_m15 65 rfl) rfl
theorem q3588 : (Jvm.Cond.static ({ cls := "EchoFairLaw", name := "isTested", desc := "(LEchoFair;II[J)I" } : Jvm.MethodName)) ∈ lw_all := lw_g (lw_at lw_m15 66 rfl) rfl
theorem q3589 : (Jvm.Cond.codeWith ({ cls := "EchoFairLaw", name := "isTested", desc := "(LEchoFair;II[J)I" } : Jvm.MethodName) method_21_code (5 : Nat) (Option.some Jvm.ClassFile.FieldType.int) [((0 : Nat), (17 : Nat), (20 : Nat), (34 : Nat))]) ∈ lw_all := lw_g (lw_at lw_m15 67 rfl) rfl
theorem q3590 : (Jvm.Cond.methodLink "EchoFairLaw" (73 : Nat) ({ cls := "EchoFair", name := "isTested", desc := "(II)Z" } : Jvm.MethodName)) ∈ lw_all := lw_g (lw_at lw_m15 68 rfl) rfl
theorem q3598 : (Jvm.Cond.methodLink "EchoFairLaw" (245 : Nat) ({ cls := "EchoFairLaw", name := "seenScore", desc := "(LEchoFair;II[J)I" } : Jvm.MethodName)) ∈ lw_all := lw_g (lw_at lw_m15 76 rfl) rfl
theorem q3599 : (Jvm.Cond.static ({ cls := "EchoFairLaw", name := "seenScore", desc := "(LEchoFair;II[J)I" } : Jvm.MethodName)) ∈ lw_all := lw_g (lw_at lw_m15 77 rfl) rfl
theorem q3600 : (Jvm.Cond.codeWith ({ cls := "EchoFairLaw", name := "seenScore", desc := "(LEchoFair;II[J)I" } : Jvm.MethodName) method_22_code (5 : Nat) (Option.some Jvm.ClassFile.FieldType.int) [((0 : Nat), (10 : Nat), (13 : Nat), (34 : Nat))]) ∈ lw_all := lw_g (lw_at lw_m15 78 rfl) rfl
theorem q3601 : (Jvm.Cond.methodLink "EchoFairLaw" (77 : Nat) ({ cls := "EchoFair", name := "seenScore", desc := "(II)I" } : Jvm.MethodName)) ∈ lw_all := lw_g (lw_at lw_m15 79 rfl) rfl
theorem q3606 : (Jvm.Cond.methodLink "EchoFairLaw" (248 : Nat) ({ cls := "EchoFairLaw", name := "pairReason", desc := "(LEchoFair;II[J)I" } : Jvm.MethodName)) ∈ lw_all := lw_g (lw_at lw_m15 84 rfl) rfl
theorem q3607 : (Jvm.Cond.static ({ cls := "EchoFairLaw", name := "pairReason", desc := "(LEchoFair;II[J)I" } : Jvm.MethodName)) ∈ lw_all := lw_g (lw_at lw_m15 85 rfl) rfl
theorem q3608 : (Jvm.Cond.codeWith ({ cls := "EchoFairLaw", name := "pairReason", desc := "(LEchoFair;II[J)I" } : Jvm.MethodName) method_23_code (5 : Nat) (Option.some Jvm.ClassFile.FieldType.int) [((0 : Nat), (10 : Nat), (13 : Nat), (34 : Nat))]) ∈ lw_all := lw_g (lw_at lw_m15 86 rfl) rfl
theorem q3609 : (Jvm.Cond.methodLink "EchoFairLaw" (80 : Nat) ({ cls := "EchoFair", name := "pairReason", desc := "(II)I" } : Jvm.MethodName)) ∈ lw_all := lw_g (lw_at lw_m15 87 rfl) rfl
theorem q3613 : (Jvm.Cond.methodLink "EchoFairLaw" (251 : Nat) ({ cls := "EchoFairLaw", name := "preferredValley", desc := "(LEchoFair;II[J)I" } : Jvm.MethodName)) ∈ lw_all := lw_g (lw_at lw_m15 91 rfl) rfl
theorem q3614 : (Jvm.Cond.static ({ cls := "EchoFairLaw", name := "preferredValley", desc := "(LEchoFair;II[J)I" } : Jvm.MethodName)) ∈ lw_all := lw_g (lw_at lw_m15 92 rfl) rfl
theorem q3615 : (Jvm.Cond.codeWith ({ cls := "EchoFairLaw", name := "preferredValley", desc := "(LEchoFair;II[J)I" } : Jvm.MethodName) method_24_code (5 : Nat) (Option.some Jvm.ClassFile.FieldType.int) [((0 : Nat), (10 : Nat), (13 : Nat), (34 : Nat))]) ∈ lw_all := lw_g (lw_at lw_m15 93 rfl) rfl
theorem q3616 : (Jvm.Cond.methodLink "EchoFairLaw" (83 : Nat) ({ cls := "EchoFair", name := "preferredValley", desc := "(II)I" } : Jvm.MethodName)) ∈ lw_all := lw_g (lw_at lw_m15 94 rfl) rfl
theorem q3620 : (Jvm.Cond.methodLink "EchoFairLaw" (254 : Nat) ({ cls := "EchoFairLaw", name := "preferredEcho", desc := "(LEchoFair;II[J)I" } : Jvm.MethodName)) ∈ lw_all := lw_g (lw_at lw_m15 98 rfl) rfl
theorem q3621 : (Jvm.Cond.static ({ cls := "EchoFairLaw", name := "preferredEcho", desc := "(LEchoFair;II[J)I" } : Jvm.MethodName)) ∈ lw_all := lw_g (lw_at lw_m15 99 rfl) rfl
theorem q3622 : (Jvm.Cond.codeWith ({ cls := "EchoFairLaw", name := "preferredEcho", desc := "(LEchoFair;II[J)I" } : Jvm.MethodName) method_25_code (5 : Nat) (Option.some Jvm.ClassFile.FieldType.int) [((0 : Nat), (10 : Nat), (13 : Nat), (34 : Nat))]) ∈ lw_all := lw_g (lw_at lw_m15 100 rfl) rfl
theorem q3623 : (Jvm.Cond.methodLink "EchoFairLaw" (86 : Nat) ({ cls := "EchoFair", name := "preferredEcho", desc := "(II)I" } : Jvm.MethodName)) ∈ lw_all := lw_g (lw_at lw_m15 101 rfl) rfl
theorem q3627 : (Jvm.Cond.methodLink "EchoFairLaw" (261 : Nat) ({ cls := "EchoFairLaw", name := "fairResult", desc := "(LEchoFair;I[J)I" } : Jvm.MethodName)) ∈ lw_all := lw_g (lw_at lw_m15 105 rfl) rfl
theorem q3628 : (Jvm.Cond.static ({ cls := "EchoFairLaw", name := "fairResult", desc := "(LEchoFair;I[J)I" } : Jvm.MethodName)) ∈ lw_all := lw_g (lw_at lw_m15 106 rfl) rfl
theorem q3629 : (Jvm.Cond.codeWith ({ cls := "EchoFairLaw", name := "fairResult", desc := "(LEchoFair;I[J)I" } : Jvm.MethodName) method_26_code (4 : Nat) (Option.some Jvm.ClassFile.FieldType.int) [((0 : Nat), (9 : Nat), (12 : Nat), (34 : Nat))]) ∈ lw_all := lw_g (lw_at lw_m15 107 rfl) rfl
theorem q3630 : (Jvm.Cond.methodLink "EchoFairLaw" (89 : Nat) ({ cls := "EchoFair", name := "fairResult", desc := "(I)I" } : Jvm.MethodName)) ∈ lw_all := lw_g (lw_at lw_m15 108 rfl) rfl
theorem q3637 : (Jvm.Cond.methodLink "EchoFairLaw" (264 : Nat) ({ cls := "EchoFairLaw", name := "savingsAfter", desc := "(LEchoFair;II[J)I" } : Jvm.MethodName)) ∈ lw_all := lw_g (lw_at lw_m15 115 rfl) rfl
theorem q3638 : (Jvm.Cond.static ({ cls := "EchoFairLaw", name := "savingsAfter", desc := "(LEchoFair;II[J)I" } : Jvm.MethodName)) ∈ lw_all := lw_g (lw_at lw_m15 116 rfl) rfl
theorem q3639 : (Jvm.Cond.codeWith ({ cls := "EchoFairLaw", name := "savingsAfter", desc := "(LEchoFair;II[J)I" } : Jvm.MethodName) method_27_code (5 : Nat) (Option.some Jvm.ClassFile.FieldType.int) [((0 : Nat), (10 : Nat), (13 : Nat), (34 : Nat)), ((0 : Nat), (10 : Nat), (17 : Nat), (19 : Nat))]) ∈ lw_all := lw_g (lw_at lw_m15 117 rfl) rfl
theorem q3640 : (Jvm.Cond.methodLink "EchoFairLaw" (92 : Nat) ({ cls := "EchoFair", name := "savingsAfter", desc := "(II)I" } : Jvm.MethodName)) ∈ lw_all := lw_g (lw_at lw_m15 118 rfl) rfl
theorem q3650 : (Jvm.Cond.methodLink "EchoFairLaw" (267 : Nat) ({ cls := "EchoFairLaw", name := "purseAfter", desc := "(LEchoFair;II[J)I" } : Jvm.MethodName)) ∈ lw_all := lw_g (lw_at lw_m15 128 rfl) rfl
theorem q3651 : (Jvm.Cond.static ({ cls := "EchoFairLaw", name := "purseAfter", desc := "(LEchoFair;II[J)I" } : Jvm.MethodName)) ∈ lw_all := lw_g (lw_at lw_m15 129 rfl) rfl
theorem q3652 : (Jvm.Cond.codeWith ({ cls := "EchoFairLaw", name := "purseAfter", desc := "(LEchoFair;II[J)I" } : Jvm.MethodName) method_28_code (5 : Nat) (Option.some Jvm.ClassFile.FieldType.int) [((0 : Nat), (10 : Nat), (13 : Nat), (34 : Nat)), ((0 : Nat), (10 : Nat), (17 : Nat), (19 : Nat))]) ∈ lw_all := lw_g (lw_at lw_m15 130 rfl) rfl
theorem q3653 : (Jvm.Cond.methodLink "EchoFairLaw" (95 : Nat) ({ cls := "EchoFair", name := "purseAfter", desc := "(II)I" } : Jvm.MethodName)) ∈ lw_all := lw_g (lw_at lw_m15 131 rfl) rfl
theorem q3657 : (Jvm.Cond.methodLink "EchoFairLaw" (270 : Nat) ({ cls := "EchoFairLaw", name := "desertsIn", desc := "(LEchoFair;I[J)I" } : Jvm.MethodName)) ∈ lw_all := lw_g (lw_at lw_m15 135 rfl) rfl
theorem q3658 : (Jvm.Cond.static ({ cls := "EchoFairLaw", name := "desertsIn", desc := "(LEchoFair;I[J)I" } : Jvm.MethodName)) ∈ lw_all := lw_g (lw_at lw_m15 136 rfl) rfl
theorem q3659 : (Jvm.Cond.codeWith ({ cls := "EchoFairLaw", name := "desertsIn", desc := "(LEchoFair;I[J)I" } : Jvm.MethodName) method_29_code (4 : Nat) (Option.some Jvm.ClassFile.FieldType.int) [((0 : Nat), (9 : Nat), (12 : Nat), (34 : Nat))]) ∈ lw_all := lw_g (lw_at lw_m15 137 rfl) rfl
theorem q3660 : (Jvm.Cond.methodLink "EchoFairLaw" (98 : Nat) ({ cls := "EchoFair", name := "desertsIn", desc := "(I)I" } : Jvm.MethodName)) ∈ lw_all := lw_g (lw_at lw_m15 138 rfl) rfl
theorem q3665 : (Jvm.Cond.methodLink "EchoFairLaw" (273 : Nat) ({ cls := "EchoFairLaw", name := "leastWage", desc := "(LEchoFair;II[J)I" } : Jvm.MethodName)) ∈ lw_all := lw_g (lw_at lw_m15 143 rfl) rfl
theorem q3666 : (Jvm.Cond.static ({ cls := "EchoFairLaw", name := "leastWage", desc := "(LEchoFair;II[J)I" } : Jvm.MethodName)) ∈ lw_all := lw_g (lw_at lw_m15 144 rfl) rfl
theorem q3667 : (Jvm.Cond.codeWith ({ cls := "EchoFairLaw", name := "leastWage", desc := "(LEchoFair;II[J)I" } : Jvm.MethodName) method_30_code (5 : Nat) (Option.some Jvm.ClassFile.FieldType.int) [((0 : Nat), (10 : Nat), (13 : Nat), (34 : Nat))]) ∈ lw_all := lw_g (lw_at lw_m15 145 rfl) rfl
theorem q3668 : (Jvm.Cond.methodLink "EchoFairLaw" (101 : Nat) ({ cls := "EchoFair", name := "leastWage", desc := "(II)I" } : Jvm.MethodName)) ∈ lw_all := lw_g (lw_at lw_m15 146 rfl) rfl
theorem q3677 : (Jvm.Cond.methodLink "EchoFairLaw" (276 : Nat) ({ cls := "EchoFairLaw", name := "bestTest", desc := "(LEchoFair;I[J)I" } : Jvm.MethodName)) ∈ lw_all := lw_g (lw_at lw_m15 155 rfl) rfl
theorem q3678 : (Jvm.Cond.static ({ cls := "EchoFairLaw", name := "bestTest", desc := "(LEchoFair;I[J)I" } : Jvm.MethodName)) ∈ lw_all := lw_g (lw_at lw_m15 156 rfl) rfl
theorem q3679 : (Jvm.Cond.codeWith ({ cls := "EchoFairLaw", name := "bestTest", desc := "(LEchoFair;I[J)I" } : Jvm.MethodName) method_31_code (4 : Nat) (Option.some Jvm.ClassFile.FieldType.int) [((0 : Nat), (9 : Nat), (12 : Nat), (34 : Nat))]) ∈ lw_all := lw_g (lw_at lw_m15 157 rfl) rfl
theorem q3680 : (Jvm.Cond.methodLink "EchoFairLaw" (104 : Nat) ({ cls := "EchoFair", name := "bestTest", desc := "(I)I" } : Jvm.MethodName)) ∈ lw_all := lw_g (lw_at lw_m15 158 rfl) rfl
theorem q3685 : (Jvm.Cond.methodLink "EchoFairLaw" (283 : Nat) ({ cls := "EchoFairLaw", name := "daysServed", desc := "(LEchoFair;II[J)I" } : Jvm.MethodName)) ∈ lw_all := lw_g (lw_at lw_m15 163 rfl) rfl
theorem q3686 : (Jvm.Cond.static ({ cls := "EchoFairLaw", name := "daysServed", desc := "(LEchoFair;II[J)I" } : Jvm.MethodName)) ∈ lw_all := lw_g (lw_at lw_m15 164 rfl) rfl
theorem q3687 : (Jvm.Cond.codeWith ({ cls := "EchoFairLaw", name := "daysServed", desc := "(LEchoFair;II[J)I" } : Jvm.MethodName) method_32_code (5 : Nat) (Option.some Jvm.ClassFile.FieldType.int) [((0 : Nat), (10 : Nat), (13 : Nat), (34 : Nat))]) ∈ lw_all := lw_g (lw_at lw_m15 165 rfl) rfl
theorem q3688 : (Jvm.Cond.methodLink "EchoFairLaw" (107 : Nat) ({ cls := "EchoFair", name := "daysServed", desc := "(II)I" } : Jvm.MethodName)) ∈ lw_all := lw_g (lw_at lw_m15 166 rfl) rfl
theorem q3697 : (Jvm.Cond.methodLink "EchoFairLaw" (294 : Nat) ({ cls := "EchoFairLaw", name := "desertions", desc := "(LEchoFair;I[J)I" } : Jvm.MethodName)) ∈ lw_all := lw_g (lw_at lw_m15 175 rfl) rfl
theorem q3698 : (Jvm.Cond.static ({ cls := "EchoFairLaw", name := "desertions", desc := "(LEchoFair;I[J)I" } : Jvm.MethodName)) ∈ lw_all := lw_g (lw_at lw_m15 176 rfl) rfl
theorem q3699 : (Jvm.Cond.codeWith ({ cls := "EchoFairLaw", name := "desertions", desc := "(LEchoFair;I[J)I" } : Jvm.MethodName) method_33_code (4 : Nat) (Option.some Jvm.ClassFile.FieldType.int) [((0 : Nat), (9 : Nat), (12 : Nat), (34 : Nat))]) ∈ lw_all := lw_g (lw_at lw_m15 177 rfl) rfl
theorem q3700 : (Jvm.Cond.methodLink "EchoFairLaw" (110 : Nat) ({ cls := "EchoFair", name := "desertions", desc := "(I)I" } : Jvm.MethodName)) ∈ lw_all := lw_g (lw_at lw_m15 178 rfl) rfl
theorem q3704 : (Jvm.Cond.methodLink "EchoFairLaw" (297 : Nat) ({ cls := "EchoFairLaw", name := "repliesHeard", desc := "(LEchoFair;I[J)I" } : Jvm.MethodName)) ∈ lw_all := lw_g (lw_at lw_m15 182 rfl) rfl
theorem q3705 : (Jvm.Cond.static ({ cls := "EchoFairLaw", name := "repliesHeard", desc := "(LEchoFair;I[J)I" } : Jvm.MethodName)) ∈ lw_all := lw_g (lw_at lw_m15 183 rfl) rfl
theorem q3706 : (Jvm.Cond.codeWith ({ cls := "EchoFairLaw", name := "repliesHeard", desc := "(LEchoFair;I[J)I" } : Jvm.MethodName) method_34_code (4 : Nat) (Option.some Jvm.ClassFile.FieldType.int) [((0 : Nat), (9 : Nat), (12 : Nat), (34 : Nat))]) ∈ lw_all := lw_g (lw_at lw_m15 184 rfl) rfl
theorem q3707 : (Jvm.Cond.methodLink "EchoFairLaw" (113 : Nat) ({ cls := "EchoFair", name := "repliesHeard", desc := "(I)I" } : Jvm.MethodName)) ∈ lw_all := lw_g (lw_at lw_m15 185 rfl) rfl
theorem q3711 : (Jvm.Cond.methodLink "EchoFairLaw" (300 : Nat) ({ cls := "EchoFairLaw", name := "wagesPaid", desc := "(LEchoFair;I[J)I" } : Jvm.MethodName)) ∈ lw_all := lw_g (lw_at lw_m15 189 rfl) rfl
theorem q3712 : (Jvm.Cond.static ({ cls := "EchoFairLaw", name := "wagesPaid", desc := "(LEchoFair;I[J)I" } : Jvm.MethodName)) ∈ lw_all := lw_g (lw_at lw_m15 190 rfl) rfl
theorem q3713 : (Jvm.Cond.codeWith ({ cls := "EchoFairLaw", name := "wagesPaid", desc := "(LEchoFair;I[J)I" } : Jvm.MethodName) method_35_code (4 : Nat) (Option.some Jvm.ClassFile.FieldType.int) [((0 : Nat), (9 : Nat), (12 : Nat), (34 : Nat))]) ∈ lw_all := lw_g (lw_at lw_m15 191 rfl) rfl
theorem q3714 : (Jvm.Cond.methodLink "EchoFairLaw" (116 : Nat) ({ cls := "EchoFair", name := "wagesPaid", desc := "(I)I" } : Jvm.MethodName)) ∈ lw_all := lw_g (lw_at lw_m15 192 rfl) rfl
theorem q3718 : (Jvm.Cond.methodLink "EchoFairLaw" (325 : Nat) ({ cls := "EchoFairLaw", name := "passDays", desc := "(LEchoFair;I[J)I" } : Jvm.MethodName)) ∈ lw_all := lw_g (lw_at lw_m15 196 rfl) rfl
theorem q3719 : (Jvm.Cond.static ({ cls := "EchoFairLaw", name := "passDays", desc := "(LEchoFair;I[J)I" } : Jvm.MethodName)) ∈ lw_all := lw_g (lw_at lw_m15 197 rfl) rfl
theorem q3720 : (Jvm.Cond.codeWith ({ cls := "EchoFairLaw", name := "passDays", desc := "(LEchoFair;I[J)I" } : Jvm.MethodName) method_36_code (4 : Nat) (Option.some Jvm.ClassFile.FieldType.int) [((0 : Nat), (9 : Nat), (12 : Nat), (19 : Nat))]) ∈ lw_all := lw_g (lw_at lw_m15 198 rfl) rfl
theorem q3721 : (Jvm.Cond.methodLink "EchoFairLaw" (119 : Nat) ({ cls := "EchoFair", name := "passDays", desc := "(I)I" } : Jvm.MethodName)) ∈ lw_all := lw_g (lw_at lw_m15 199 rfl) rfl
theorem q3729 : (Jvm.Cond.methodLink "EchoFairLaw" (332 : Nat) ({ cls := "EchoFairLaw", name := "test", desc := "(LEchoFair;II[J)I" } : Jvm.MethodName)) ∈ lw_all := lw_g (lw_at lw_m15 207 rfl) rfl
theorem q3730 : (Jvm.Cond.static ({ cls := "EchoFairLaw", name := "test", desc := "(LEchoFair;II[J)I" } : Jvm.MethodName)) ∈ lw_all := lw_g (lw_at lw_m15 208 rfl) rfl
theorem q3731 : (Jvm.Cond.codeWith ({ cls := "EchoFairLaw", name := "test", desc := "(LEchoFair;II[J)I" } : Jvm.MethodName) method_37_code (5 : Nat) (Option.some Jvm.ClassFile.FieldType.int) [((0 : Nat), (10 : Nat), (13 : Nat), (34 : Nat)), ((0 : Nat), (10 : Nat), (17 : Nat), (13 : Nat))]) ∈ lw_all := lw_g (lw_at lw_m15 209 rfl) rfl
theorem q3732 : (Jvm.Cond.methodLink "EchoFairLaw" (122 : Nat) ({ cls := "EchoFair", name := "test", desc := "(II)I" } : Jvm.MethodName)) ∈ lw_all := lw_g (lw_at lw_m15 210 rfl) rfl
theorem q3739 : (Jvm.Cond.methodLink "EchoFairLaw" (335 : Nat) ({ cls := "EchoFairLaw", name := "dismiss", desc := "(LEchoFair;I[J)I" } : Jvm.MethodName)) ∈ lw_all := lw_g (lw_at lw_m15 217 rfl) rfl
theorem q3740 : (Jvm.Cond.static ({ cls := "EchoFairLaw", name := "dismiss", desc := "(LEchoFair;I[J)I" } : Jvm.MethodName)) ∈ lw_all := lw_g (lw_at lw_m15 218 rfl) rfl
theorem q3741 : (Jvm.Cond.codeWith ({ cls := "EchoFairLaw", name := "dismiss", desc := "(LEchoFair;I[J)I" } : Jvm.MethodName) method_38_code (4 : Nat) (Option.some Jvm.ClassFile.FieldType.int) [((0 : Nat), (9 : Nat), (12 : Nat), (34 : Nat)), ((0 : Nat), (9 : Nat), (15 : Nat), (13 : Nat))]) ∈ lw_all := lw_g (lw_at lw_m15 219 rfl) rfl
theorem q3742 : (Jvm.Cond.methodLink "EchoFairLaw" (125 : Nat) ({ cls := "EchoFair", name := "dismiss", desc := "(I)I" } : Jvm.MethodName)) ∈ lw_all := lw_g (lw_at lw_m15 220 rfl) rfl
theorem q3749 : (Jvm.Cond.methodLink "EchoFairLaw" (338 : Nat) ({ cls := "EchoFairLaw", name := "setWage", desc := "(LEchoFair;II[J)I" } : Jvm.MethodName)) ∈ lw_all := lw_g (lw_at lw_m15 227 rfl) rfl
theorem q3750 : (Jvm.Cond.static ({ cls := "EchoFairLaw", name := "setWage", desc := "(LEchoFair;II[J)I" } : Jvm.MethodName)) ∈ lw_all := lw_g (lw_at lw_m15 228 rfl) rfl
theorem q3751 : (Jvm.Cond.codeWith ({ cls := "EchoFairLaw", name := "setWage", desc := "(LEchoFair;II[J)I" } : Jvm.MethodName) method_39_code (5 : Nat) (Option.some Jvm.ClassFile.FieldType.int) [((0 : Nat), (10 : Nat), (13 : Nat), (34 : Nat)), ((0 : Nat), (10 : Nat), (17 : Nat), (19 : Nat))]) ∈ lw_all := lw_g (lw_at lw_m15 229 rfl) rfl
theorem q3752 : (Jvm.Cond.methodLink "EchoFairLaw" (128 : Nat) ({ cls := "EchoFair", name := "setWage", desc := "(II)I" } : Jvm.MethodName)) ∈ lw_all := lw_g (lw_at lw_m15 230 rfl) rfl
theorem q3760 : (Jvm.Cond.methodLink "EchoFairLaw" (341 : Nat) ({ cls := "EchoFairLaw", name := "fund", desc := "(LEchoFair;II[J)I" } : Jvm.MethodName)) ∈ lw_all := lw_g (lw_at lw_m15 238 rfl) rfl
theorem q3761 : (Jvm.Cond.static ({ cls := "EchoFairLaw", name := "fund", desc := "(LEchoFair;II[J)I" } : Jvm.MethodName)) ∈ lw_all := lw_g (lw_at lw_m15 239 rfl) rfl
theorem q3762 : (Jvm.Cond.codeWith ({ cls := "EchoFairLaw", name := "fund", desc := "(LEchoFair;II[J)I" } : Jvm.MethodName) method_40_code (5 : Nat) (Option.some Jvm.ClassFile.FieldType.int) [((0 : Nat), (10 : Nat), (13 : Nat), (34 : Nat)), ((0 : Nat), (10 : Nat), (17 : Nat), (19 : Nat))]) ∈ lw_all := lw_g (lw_at lw_m16 0 rfl) rfl
theorem q3763 : (Jvm.Cond.methodLink "EchoFairLaw" (131 : Nat) ({ cls := "EchoFair", name := "fund", desc := "(II)I" } : Jvm.MethodName)) ∈ lw_all := lw_g (lw_at lw_m16 1 rfl) rfl
theorem q3771 : (Jvm.Cond.methodLink "EchoFairLaw" (344 : Nat) ({ cls := "EchoFairLaw", name := "train", desc := "(LEchoFair;I[J)I" } : Jvm.MethodName)) ∈ lw_all := lw_g (lw_at lw_m16 9 rfl) rfl
theorem q3772 : (Jvm.Cond.static ({ cls := "EchoFairLaw", name := "train", desc := "(LEchoFair;I[J)I" } : Jvm.MethodName)) ∈ lw_all := lw_g (lw_at lw_m16 10 rfl) rfl
theorem q3773 : (Jvm.Cond.codeWith ({ cls := "EchoFairLaw", name := "train", desc := "(LEchoFair;I[J)I" } : Jvm.MethodName) method_41_code (4 : Nat) (Option.some Jvm.ClassFile.FieldType.int) [((0 : Nat), (9 : Nat), (12 : Nat), (34 : Nat)), ((0 : Nat), (9 : Nat), (15 : Nat), (13 : Nat))]) ∈ lw_all := lw_g (lw_at lw_m16 11 rfl) rfl
theorem q3774 : (Jvm.Cond.methodLink "EchoFairLaw" (134 : Nat) ({ cls := "EchoFair", name := "train", desc := "(I)I" } : Jvm.MethodName)) ∈ lw_all := lw_g (lw_at lw_m16 12 rfl) rfl
theorem q3781 : (Jvm.Cond.methodLink "EchoFairLaw" (347 : Nat) ({ cls := "EchoFairLaw", name := "undo", desc := "(LEchoFair;[J)I" } : Jvm.MethodName)) ∈ lw_all := lw_g (lw_at lw_m16 19 rfl) rfl
theorem q3782 : (Jvm.Cond.static ({ cls := "EchoFairLaw", name := "undo", desc := "(LEchoFair;[J)I" } : Jvm.MethodName)) ∈ lw_all := lw_g (lw_at lw_m16 20 rfl) rfl
theorem q3783 : (Jvm.Cond.codeWith ({ cls := "EchoFairLaw", name := "undo", desc := "(LEchoFair;[J)I" } : Jvm.MethodName) method_42_code (3 : Nat) (Option.some Jvm.ClassFile.FieldType.int) [((0 : Nat), (8 : Nat), (11 : Nat), (13 : Nat))]) ∈ lw_all := lw_g (lw_at lw_m16 21 rfl) rfl
theorem q3784 : (Jvm.Cond.methodLink "EchoFairLaw" (137 : Nat) ({ cls := "EchoFair", name := "undo", desc := "()I" } : Jvm.MethodName)) ∈ lw_all := lw_g (lw_at lw_m16 22 rfl) rfl
theorem q3800 : (Jvm.Cond.methodLink "EchoFairLaw" (354 : Nat) ({ cls := "EchoFairLaw", name := "restore", desc := "(LEchoFair;[J)I" } : Jvm.MethodName)) ∈ lw_all := lw_g (lw_at lw_m16 38 rfl) rfl
theorem q3801 : (Jvm.Cond.static ({ cls := "EchoFairLaw", name := "restore", desc := "(LEchoFair;[J)I" } : Jvm.MethodName)) ∈ lw_all := lw_g (lw_at lw_m16 39 rfl) rfl
theorem q3802 : (Jvm.Cond.codeWith ({ cls := "EchoFairLaw", name := "restore", desc := "(LEchoFair;[J)I" } : Jvm.MethodName) method_43_code (3 : Nat) (Option.some Jvm.ClassFile.FieldType.int) [((0 : Nat), (8 : Nat), (11 : Nat), (13 : Nat))]) ∈ lw_all := lw_g (lw_at lw_m16 40 rfl) rfl
theorem q3803 : (Jvm.Cond.methodLink "EchoFairLaw" (140 : Nat) ({ cls := "EchoFair", name := "restore", desc := "()I" } : Jvm.MethodName)) ∈ lw_all := lw_g (lw_at lw_m16 41 rfl) rfl
theorem q3807 : (Jvm.Cond.classLink "EchoFairLaw" (144 : Nat) "EchoFairModel") ∈ lw_all := lw_g (lw_at lw_m16 45 rfl) rfl
theorem q3809 : (Jvm.Cond.methodLink "EchoFairLaw" (146 : Nat) ({ cls := "EchoFairModel", name := "<init>", desc := "()V" } : Jvm.MethodName)) ∈ lw_all := lw_g (lw_at lw_m16 47 rfl) rfl
theorem q4023 : (Jvm.Cond.methodLink "EchoFairLaw" (153 : Nat) ({ cls := "EchoFairModel", name := "thrown", desc := "()I" } : Jvm.MethodName)) ∈ lw_all := lw_g (lw_at lw_m17 21 rfl) rfl
theorem q4027 : (Jvm.Cond.methodLink "EchoFairLaw" (152 : Nat) ({ cls := "EchoFairModel", name := "append", desc := "(IIIII)I" } : Jvm.MethodName)) ∈ lw_all := lw_g (lw_at lw_m17 25 rfl) rfl
theorem q4035 : (Jvm.Cond.methodLink "EchoFairLaw" (159 : Nat) ({ cls := "EchoFairModel", name := "truncate", desc := "(I)I" } : Jvm.MethodName)) ∈ lw_all := lw_g (lw_at lw_m17 33 rfl) rfl
theorem q4039 : (Jvm.Cond.methodLink "EchoFairLaw" (170 : Nat) ({ cls := "EchoFairModel", name := "errorCode", desc := "()I" } : Jvm.MethodName)) ∈ lw_all := lw_g (lw_at lw_m17 37 rfl) rfl
theorem q4043 : (Jvm.Cond.methodLink "EchoFairLaw" (174 : Nat) ({ cls := "EchoFairModel", name := "errorPosition", desc := "()I" } : Jvm.MethodName)) ∈ lw_all := lw_g (lw_at lw_m17 41 rfl) rfl
theorem q4047 : (Jvm.Cond.methodLink "EchoFairLaw" (163 : Nat) ({ cls := "EchoFairModel", name := "load", desc := "()I" } : Jvm.MethodName)) ∈ lw_all := lw_g (lw_at lw_m17 45 rfl) rfl
theorem q4048 : (Jvm.Cond.methodLink "EchoFairLaw" (166 : Nat) ({ cls := "EchoFairModel", name := "executeCommands", desc := "()I" } : Jvm.MethodName)) ∈ lw_all := lw_g (lw_at lw_m17 46 rfl) rfl
theorem q4235 : (Jvm.Cond.methodLink "EchoFairLaw" (178 : Nat) ({ cls := "EchoFairModel", name := "echoCount", desc := "()I" } : Jvm.MethodName)) ∈ lw_all := lw_g (lw_at lw_m17 233 rfl) rfl
theorem q4243 : (Jvm.Cond.methodLink "EchoFairLaw" (182 : Nat) ({ cls := "EchoFairModel", name := "valleyCount", desc := "()I" } : Jvm.MethodName)) ∈ lw_all := lw_g (lw_at lw_m18 1 rfl) rfl
theorem q4247 : (Jvm.Cond.methodLink "EchoFairLaw" (186 : Nat) ({ cls := "EchoFairModel", name := "day", desc := "()I" } : Jvm.MethodName)) ∈ lw_all := lw_g (lw_at lw_m18 5 rfl) rfl
theorem q4251 : (Jvm.Cond.methodLink "EchoFairLaw" (190 : Nat) ({ cls := "EchoFairModel", name := "seasonLength", desc := "()I" } : Jvm.MethodName)) ∈ lw_all := lw_g (lw_at lw_m18 9 rfl) rfl
theorem q4255 : (Jvm.Cond.methodLink "EchoFairLaw" (193 : Nat) ({ cls := "EchoFairModel", name := "fogOf", desc := "(I)I" } : Jvm.MethodName)) ∈ lw_all := lw_g (lw_at lw_m18 13 rfl) rfl
theorem q4260 : (Jvm.Cond.methodLink "EchoFairLaw" (197 : Nat) ({ cls := "EchoFairModel", name := "findEcho", desc := "()I" } : Jvm.MethodName)) ∈ lw_all := lw_g (lw_at lw_m18 18 rfl) rfl
theorem q4268 : (Jvm.Cond.methodLink "EchoFairLaw" (201 : Nat) ({ cls := "EchoFairModel", name := "findValley", desc := "()I" } : Jvm.MethodName)) ∈ lw_all := lw_g (lw_at lw_m18 26 rfl) rfl
theorem q4272 : (Jvm.Cond.methodLink "EchoFairLaw" (204 : Nat) ({ cls := "EchoFairModel", name := "delayOf", desc := "(I)I" } : Jvm.MethodName)) ∈ lw_all := lw_g (lw_at lw_m18 30 rfl) rfl
theorem q4284 : (Jvm.Cond.methodLink "EchoFairLaw" (207 : Nat) ({ cls := "EchoFairModel", name := "repeatsOf", desc := "(I)I" } : Jvm.MethodName)) ∈ lw_all := lw_g (lw_at lw_m18 42 rfl) rfl
theorem q4288 : (Jvm.Cond.methodLink "EchoFairLaw" (210 : Nat) ({ cls := "EchoFairModel", name := "reserveWage", desc := "(I)I" } : Jvm.MethodName)) ∈ lw_all := lw_g (lw_at lw_m18 46 rfl) rfl
theorem q4292 : (Jvm.Cond.methodLink "EchoFairLaw" (213 : Nat) ({ cls := "EchoFairModel", name := "resistanceOf", desc := "(I)I" } : Jvm.MethodName)) ∈ lw_all := lw_g (lw_at lw_m18 50 rfl) rfl
theorem q4296 : (Jvm.Cond.methodLink "EchoFairLaw" (216 : Nat) ({ cls := "EchoFairModel", name := "savingsOf", desc := "(I)I" } : Jvm.MethodName)) ∈ lw_all := lw_g (lw_at lw_m18 54 rfl) rfl
theorem q4300 : (Jvm.Cond.methodLink "EchoFairLaw" (219 : Nat) ({ cls := "EchoFairModel", name := "unpaidDays", desc := "(I)I" } : Jvm.MethodName)) ∈ lw_all := lw_g (lw_at lw_m18 58 rfl) rfl
theorem q4304 : (Jvm.Cond.methodLink "EchoFairLaw" (222 : Nat) ({ cls := "EchoFairModel", name := "employerOf", desc := "(I)I" } : Jvm.MethodName)) ∈ lw_all := lw_g (lw_at lw_m18 62 rfl) rfl
theorem q4308 : (Jvm.Cond.methodLink "EchoFairLaw" (225 : Nat) ({ cls := "EchoFairModel", name := "widthOf", desc := "(I)I" } : Jvm.MethodName)) ∈ lw_all := lw_g (lw_at lw_m18 66 rfl) rfl
theorem q4320 : (Jvm.Cond.methodLink "EchoFairLaw" (228 : Nat) ({ cls := "EchoFairModel", name := "postsOf", desc := "(I)I" } : Jvm.MethodName)) ∈ lw_all := lw_g (lw_at lw_m18 78 rfl) rfl
theorem q4324 : (Jvm.Cond.methodLink "EchoFairLaw" (231 : Nat) ({ cls := "EchoFairModel", name := "wageOf", desc := "(I)I" } : Jvm.MethodName)) ∈ lw_all := lw_g (lw_at lw_m18 82 rfl) rfl
theorem q4328 : (Jvm.Cond.methodLink "EchoFairLaw" (234 : Nat) ({ cls := "EchoFairModel", name := "purseOf", desc := "(I)I" } : Jvm.MethodName)) ∈ lw_all := lw_g (lw_at lw_m18 86 rfl) rfl
theorem q4332 : (Jvm.Cond.methodLink "EchoFairLaw" (237 : Nat) ({ cls := "EchoFairModel", name := "staffCount", desc := "(I)I" } : Jvm.MethodName)) ∈ lw_all := lw_g (lw_at lw_m18 90 rfl) rfl
theorem q4336 : (Jvm.Cond.methodLink "EchoFairLaw" (241 : Nat) ({ cls := "EchoFairModel", name := "staffMember", desc := "(II)I" } : Jvm.MethodName)) ∈ lw_all := lw_g (lw_at lw_m18 94 rfl) rfl
theorem q4340 : (Jvm.Cond.methodLink "EchoFairLaw" (244 : Nat) ({ cls := "EchoFairModel", name := "isTested", desc := "(II)Z" } : Jvm.MethodName)) ∈ lw_all := lw_g (lw_at lw_m18 98 rfl) rfl
theorem q4348 : (Jvm.Cond.methodLink "EchoFairLaw" (247 : Nat) ({ cls := "EchoFairModel", name := "seenScore", desc := "(II)I" } : Jvm.MethodName)) ∈ lw_all := lw_g (lw_at lw_m18 106 rfl) rfl
theorem q4352 : (Jvm.Cond.methodLink "EchoFairLaw" (250 : Nat) ({ cls := "EchoFairModel", name := "pairReason", desc := "(II)I" } : Jvm.MethodName)) ∈ lw_all := lw_g (lw_at lw_m18 110 rfl) rfl
theorem q4356 : (Jvm.Cond.methodLink "EchoFairLaw" (253 : Nat) ({ cls := "EchoFairModel", name := "preferredValley", desc := "(II)I" } : Jvm.MethodName)) ∈ lw_all := lw_g (lw_at lw_m18 114 rfl) rfl
theorem q4367 : (Jvm.Cond.methodLink "EchoFairLaw" (256 : Nat) ({ cls := "EchoFairModel", name := "preferredEcho", desc := "(II)I" } : Jvm.MethodName)) ∈ lw_all := lw_g (lw_at lw_m18 125 rfl) rfl
theorem q4375 : (Jvm.Cond.methodLink "EchoFairLaw" (260 : Nat) ({ cls := "EchoFairModel", name := "blockingPairs", desc := "()I" } : Jvm.MethodName)) ∈ lw_all := lw_g (lw_at lw_m18 133 rfl) rfl
theorem q4391 : (Jvm.Cond.methodLink "EchoFairLaw" (263 : Nat) ({ cls := "EchoFairModel", name := "fairResult", desc := "(I)I" } : Jvm.MethodName)) ∈ lw_all := lw_g (lw_at lw_m18 149 rfl) rfl
theorem q4407 : (Jvm.Cond.methodLink "EchoFairLaw" (266 : Nat) ({ cls := "EchoFairModel", name := "savingsAfter", desc := "(II)I" } : Jvm.MethodName)) ∈ lw_all := lw_g (lw_at lw_m18 165 rfl) rfl
theorem q4419 : (Jvm.Cond.methodLink "EchoFairLaw" (269 : Nat) ({ cls := "EchoFairModel", name := "purseAfter", desc := "(II)I" } : Jvm.MethodName)) ∈ lw_all := lw_g (lw_at lw_m18 177 rfl) rfl
theorem q4423 : (Jvm.Cond.methodLink "EchoFairLaw" (272 : Nat) ({ cls := "EchoFairModel", name := "desertsIn", desc := "(I)I" } : Jvm.MethodName)) ∈ lw_all := lw_g (lw_at lw_m18 181 rfl) rfl
theorem q4427 : (Jvm.Cond.methodLink "EchoFairLaw" (275 : Nat) ({ cls := "EchoFairModel", name := "leastWage", desc := "(II)I" } : Jvm.MethodName)) ∈ lw_all := lw_g (lw_at lw_m18 185 rfl) rfl
theorem q4431 : (Jvm.Cond.methodLink "EchoFairLaw" (278 : Nat) ({ cls := "EchoFairModel", name := "bestTest", desc := "(I)I" } : Jvm.MethodName)) ∈ lw_all := lw_g (lw_at lw_m18 189 rfl) rfl
theorem q4435 : (Jvm.Cond.methodLink "EchoFairLaw" (282 : Nat) ({ cls := "EchoFairModel", name := "richestEcho", desc := "()I" } : Jvm.MethodName)) ∈ lw_all := lw_g (lw_at lw_m18 193 rfl) rfl
theorem q4439 : (Jvm.Cond.methodLink "EchoFairLaw" (285 : Nat) ({ cls := "EchoFairModel", name := "daysServed", desc := "(II)I" } : Jvm.MethodName)) ∈ lw_all := lw_g (lw_at lw_m18 197 rfl) rfl
theorem q4443 : (Jvm.Cond.methodLink "EchoFairLaw" (289 : Nat) ({ cls := "EchoFairModel", name := "contractsMade", desc := "()I" } : Jvm.MethodName)) ∈ lw_all := lw_g (lw_at lw_m18 201 rfl) rfl
theorem q4447 : (Jvm.Cond.methodLink "EchoFairLaw" (293 : Nat) ({ cls := "EchoFairModel", name := "contractsEnded", desc := "()I" } : Jvm.MethodName)) ∈ lw_all := lw_g (lw_at lw_m18 205 rfl) rfl
theorem q4451 : (Jvm.Cond.methodLink "EchoFairLaw" (296 : Nat) ({ cls := "EchoFairModel", name := "desertions", desc := "(I)I" } : Jvm.MethodName)) ∈ lw_all := lw_g (lw_at lw_m18 209 rfl) rfl
theorem q4455 : (Jvm.Cond.methodLink "EchoFairLaw" (299 : Nat) ({ cls := "EchoFairModel", name := "repliesHeard", desc := "(I)I" } : Jvm.MethodName)) ∈ lw_all := lw_g (lw_at lw_m18 213 rfl) rfl
theorem q4459 : (Jvm.Cond.methodLink "EchoFairLaw" (302 : Nat) ({ cls := "EchoFairModel", name := "wagesPaid", desc := "(I)I" } : Jvm.MethodName)) ∈ lw_all := lw_g (lw_at lw_m18 217 rfl) rfl
theorem q4463 : (Jvm.Cond.methodLink "EchoFairLaw" (306 : Nat) ({ cls := "EchoFairModel", name := "moneyImbalance", desc := "()I" } : Jvm.MethodName)) ∈ lw_all := lw_g (lw_at lw_m18 221 rfl) rfl
theorem q4475 : (Jvm.Cond.methodLink "EchoFairLaw" (310 : Nat) ({ cls := "EchoFairModel", name := "contractImbalance", desc := "()I" } : Jvm.MethodName)) ∈ lw_all := lw_g (lw_at lw_m18 233 rfl) rfl
theorem q4483 : (Jvm.Cond.methodLink "EchoFairLaw" (314 : Nat) ({ cls := "EchoFairModel", name := "doubleServants", desc := "()I" } : Jvm.MethodName)) ∈ lw_all := lw_g (lw_at lw_m19 1 rfl) rfl
theorem q4491 : (Jvm.Cond.methodLink "EchoFairLaw" (319 : Nat) ({ cls := "EchoFairModel", name := "meanSavings", desc := "()D" } : Jvm.MethodName)) ∈ lw_all := lw_g (lw_at lw_m19 9 rfl) rfl
theorem q4495 : (Jvm.Cond.methodLink "EchoFairLaw" (324 : Nat) ({ cls := "EchoFairModel", name := "employmentRate", desc := "()F" } : Jvm.MethodName)) ∈ lw_all := lw_g (lw_at lw_m19 13 rfl) rfl
theorem q4499 : (Jvm.Cond.methodLink "EchoFairLaw" (327 : Nat) ({ cls := "EchoFairModel", name := "passDays", desc := "(I)I" } : Jvm.MethodName)) ∈ lw_all := lw_g (lw_at lw_m19 17 rfl) rfl
theorem q4512 : (Jvm.Cond.methodLink "EchoFairLaw" (331 : Nat) ({ cls := "EchoFairModel", name := "holdFair", desc := "()I" } : Jvm.MethodName)) ∈ lw_all := lw_g (lw_at lw_m19 30 rfl) rfl
theorem q4516 : (Jvm.Cond.methodLink "EchoFairLaw" (334 : Nat) ({ cls := "EchoFairModel", name := "test", desc := "(II)I" } : Jvm.MethodName)) ∈ lw_all := lw_g (lw_at lw_m19 34 rfl) rfl
theorem q4520 : (Jvm.Cond.methodLink "EchoFairLaw" (337 : Nat) ({ cls := "EchoFairModel", name := "dismiss", desc := "(I)I" } : Jvm.MethodName)) ∈ lw_all := lw_g (lw_at lw_m19 38 rfl) rfl
theorem q4524 : (Jvm.Cond.methodLink "EchoFairLaw" (340 : Nat) ({ cls := "EchoFairModel", name := "setWage", desc := "(II)I" } : Jvm.MethodName)) ∈ lw_all := lw_g (lw_at lw_m19 42 rfl) rfl
theorem q4529 : (Jvm.Cond.methodLink "EchoFairLaw" (343 : Nat) ({ cls := "EchoFairModel", name := "fund", desc := "(II)I" } : Jvm.MethodName)) ∈ lw_all := lw_g (lw_at lw_m19 47 rfl) rfl
theorem q4534 : (Jvm.Cond.methodLink "EchoFairLaw" (346 : Nat) ({ cls := "EchoFairModel", name := "train", desc := "(I)I" } : Jvm.MethodName)) ∈ lw_all := lw_g (lw_at lw_m19 52 rfl) rfl
theorem q4538 : (Jvm.Cond.methodLink "EchoFairLaw" (349 : Nat) ({ cls := "EchoFairModel", name := "undo", desc := "()I" } : Jvm.MethodName)) ∈ lw_all := lw_g (lw_at lw_m19 56 rfl) rfl
theorem q4542 : (Jvm.Cond.methodLink "EchoFairLaw" (353 : Nat) ({ cls := "EchoFairModel", name := "save", desc := "()I" } : Jvm.MethodName)) ∈ lw_all := lw_g (lw_at lw_m19 60 rfl) rfl
theorem q4546 : (Jvm.Cond.methodLink "EchoFairLaw" (356 : Nat) ({ cls := "EchoFairModel", name := "restore", desc := "()I" } : Jvm.MethodName)) ∈ lw_all := lw_g (lw_at lw_m19 64 rfl) rfl
theorem q4550 : (Jvm.Cond.methodLink "EchoFairLaw" (360 : Nat) ({ cls := "EchoFairModel", name := "formatContracts", desc := "()I" } : Jvm.MethodName)) ∈ lw_all := lw_g (lw_at lw_m19 68 rfl) rfl
theorem q4562 : (Jvm.Cond.methodLink "EchoFairLaw" (364 : Nat) ({ cls := "EchoFairModel", name := "outputByte", desc := "(I)I" } : Jvm.MethodName)) ∈ lw_all := lw_g (lw_at lw_m19 80 rfl) rfl
theorem q163 : (Jvm.Cond.initialized "EchoFair") ∈ lw_all := lw_g (lw_at lw_m1 1 rfl) rfl
theorem q232 : (Jvm.Cond.instantiable "EchoFair" (8 : Nat)) ∈ lw_all := lw_g (lw_at lw_m1 70 rfl) rfl
theorem q234 : (Jvm.Cond.instanceMethod ({ cls := "EchoFair", name := "<init>", desc := "()V" } : Jvm.MethodName)) ∈ lw_all := lw_g (lw_at lw_m1 72 rfl) rfl
theorem q235 : (Jvm.Cond.code ({ cls := "EchoFair", name := "<init>", desc := "()V" } : Jvm.MethodName) prog_1_method_5_code (1 : Nat) (Option.none : Option Jvm.ClassFile.FieldType)) ∈ lw_all := lw_g (lw_at lw_m1 73 rfl) rfl
theorem q236 : (Jvm.Cond.methodLink "EchoFair" (13 : Nat) ({ cls := "java/lang/Object", name := "<init>", desc := "()V" } : Jvm.MethodName)) ∈ lw_all := lw_g (lw_at lw_m1 74 rfl) rfl
theorem q239 : (Jvm.Cond.methodLink "EchoFair" (16 : Nat) ({ cls := "EchoFair", name := "initialState", desc := "()LEchoFair$State;" } : Jvm.MethodName)) ∈ lw_all := lw_g (lw_at lw_m1 77 rfl) rfl
theorem q240 : (Jvm.Cond.static ({ cls := "EchoFair", name := "initialState", desc := "()LEchoFair$State;" } : Jvm.MethodName)) ∈ lw_all := lw_g (lw_at lw_m1 78 rfl) rfl
theorem q241 : (Jvm.Cond.code ({ cls := "EchoFair", name := "initialState", desc := "()LEchoFair$State;" } : Jvm.MethodName) prog_1_method_6_code (1 : Nat) (Option.some (Jvm.ClassFile.FieldType.object "EchoFair$State"))) ∈ lw_all := lw_g (lw_at lw_m1 79 rfl) rfl
theorem q242 : (Jvm.Cond.classLink "EchoFair" (50 : Nat) "EchoFair$State") ∈ lw_all := lw_g (lw_at lw_m1 80 rfl) rfl
theorem q244 : (Jvm.Cond.methodLink "EchoFair" (52 : Nat) ({ cls := "EchoFair$State", name := "<init>", desc := "(I[I)V" } : Jvm.MethodName)) ∈ lw_all := lw_g (lw_at lw_m1 82 rfl) rfl
theorem q963 : (Jvm.Cond.selects "EchoFair" ({ cls := "java/lang/Object", name := "toString", desc := "()Ljava/lang/String;" } : Jvm.MethodName) ({ cls := "java/lang/Object", name := "toString", desc := "()Ljava/lang/String;" } : Jvm.MethodName)) ∈ lw_all := lw_g (lw_at lw_m4 81 rfl) rfl
theorem q973 : (Jvm.Cond.selects "EchoFair" ({ cls := "java/lang/Object", name := "getClass", desc := "()Ljava/lang/Class;" } : Jvm.MethodName) ({ cls := "java/lang/Object", name := "getClass", desc := "()Ljava/lang/Class;" } : Jvm.MethodName)) ∈ lw_all := lw_g (lw_at lw_m4 91 rfl) rfl
theorem q1200 : (Jvm.Cond.fieldLinkNest "EchoFair" (207 : Nat) "EchoFair$State" "season" "I" "EchoFair") ∈ lw_tbl := lw_at lw_m5 78 rfl
theorem q1204 : (Jvm.Cond.fieldLinkNest "EchoFair" (55 : Nat) "EchoFair$State" "echoes" "Ljava/util/List;" "EchoFair") ∈ lw_tbl := lw_at lw_m5 82 rfl
theorem q1208 : (Jvm.Cond.fieldLinkNest "EchoFair" (78 : Nat) "EchoFair$State" "valleys" "Ljava/util/List;" "EchoFair") ∈ lw_tbl := lw_at lw_m5 86 rfl
theorem q1212 : (Jvm.Cond.fieldLinkNest "EchoFair" (354 : Nat) "EchoFair$State" "served" "Ljava/util/HashMap;" "EchoFair") ∈ lw_tbl := lw_at lw_m5 90 rfl
theorem q1214 : (Jvm.Cond.fieldLinkNest "EchoFair" (204 : Nat) "EchoFair$State" "day" "I" "EchoFair") ∈ lw_tbl := lw_at lw_m5 92 rfl
theorem q1216 : (Jvm.Cond.fieldLinkNest "EchoFair" (98 : Nat) "EchoFair$State" "start" "I" "EchoFair") ∈ lw_tbl := lw_at lw_m5 94 rfl
theorem q1219 : (Jvm.Cond.fieldLinkNest "EchoFair" (385 : Nat) "EchoFair$State" "earned" "I" "EchoFair") ∈ lw_tbl := lw_at lw_m5 97 rfl
theorem q1221 : (Jvm.Cond.fieldLinkNest "EchoFair" (388 : Nat) "EchoFair$State" "funds" "I" "EchoFair") ∈ lw_tbl := lw_at lw_m5 99 rfl
theorem q1223 : (Jvm.Cond.fieldLinkNest "EchoFair" (391 : Nat) "EchoFair$State" "trained" "I" "EchoFair") ∈ lw_tbl := lw_at lw_m5 101 rfl
theorem q1225 : (Jvm.Cond.fieldLinkNest "EchoFair" (373 : Nat) "EchoFair$State" "made" "I" "EchoFair") ∈ lw_tbl := lw_at lw_m5 103 rfl
theorem q1227 : (Jvm.Cond.fieldLinkNest "EchoFair" (376 : Nat) "EchoFair$State" "ended" "I" "EchoFair") ∈ lw_tbl := lw_at lw_m5 105 rfl
theorem q1255 : (Jvm.Cond.classLink "EchoFair" (59 : Nat) "EchoFair$Echo") ∈ lw_all := lw_g (lw_at lw_m5 133 rfl) rfl
theorem q1257 : (Jvm.Cond.stringRef "EchoFair" (61 : Nat) "yodel") ∈ lw_tbl := lw_at lw_m5 135 rfl
theorem q1258 : (Jvm.Cond.methodLink "EchoFair" (63 : Nat) ({ cls := "EchoFair$Echo", name := "<init>", desc := "(Ljava/lang/String;IIII)V" } : Jvm.MethodName)) ∈ lw_all := lw_g (lw_at lw_m5 136 rfl) rfl
theorem q1264 : (Jvm.Cond.fieldLinkNest "EchoFair" (456 : Nat) "EchoFair$Echo" "name" "Ljava/lang/String;" "EchoFair") ∈ lw_tbl := lw_at lw_m5 142 rfl
theorem q1267 : (Jvm.Cond.fieldLinkNest "EchoFair" (250 : Nat) "EchoFair$Echo" "delay" "I" "EchoFair") ∈ lw_tbl := lw_at lw_m5 145 rfl
theorem q1271 : (Jvm.Cond.fieldLinkNest "EchoFair" (256 : Nat) "EchoFair$Echo" "reserve" "I" "EchoFair") ∈ lw_tbl := lw_at lw_m5 149 rfl
theorem q1274 : (Jvm.Cond.fieldLinkNest "EchoFair" (259 : Nat) "EchoFair$Echo" "resistance" "I" "EchoFair") ∈ lw_tbl := lw_at lw_m5 152 rfl
theorem q1278 : (Jvm.Cond.fieldLinkNest "EchoFair" (253 : Nat) "EchoFair$Echo" "repeats" "I" "EchoFair") ∈ lw_tbl := lw_at lw_m5 156 rfl
theorem q1281 : (Jvm.Cond.fieldLinkNest "EchoFair" (262 : Nat) "EchoFair$Echo" "savings" "I" "EchoFair") ∈ lw_tbl := lw_at lw_m5 159 rfl
theorem q1284 : (Jvm.Cond.fieldLinkNest "EchoFair" (265 : Nat) "EchoFair$Echo" "unpaid" "I" "EchoFair") ∈ lw_tbl := lw_at lw_m5 162 rfl
theorem q1288 : (Jvm.Cond.fieldLinkNest "EchoFair" (268 : Nat) "EchoFair$Echo" "employer" "I" "EchoFair") ∈ lw_tbl := lw_at lw_m5 166 rfl
theorem q1291 : (Jvm.Cond.fieldLinkNest "EchoFair" (340 : Nat) "EchoFair$Echo" "desertions" "I" "EchoFair") ∈ lw_tbl := lw_at lw_m5 169 rfl
theorem q1311 : (Jvm.Cond.interfaceEntry "EchoFair" (66 : Nat)) ∈ lw_tbl := lw_at lw_m5 189 rfl
theorem q1312 : (Jvm.Cond.methodLink "EchoFair" (66 : Nat) ({ cls := "java/util/List", name := "add", desc := "(Ljava/lang/Object;)Z" } : Jvm.MethodName)) ∈ lw_all := lw_g (lw_at lw_m5 190 rfl) rfl
theorem q1346 : (Jvm.Cond.stringRef "EchoFair" (72 : Nat) "mumble") ∈ lw_tbl := lw_at lw_m5 224 rfl
theorem q1347 : (Jvm.Cond.stringRef "EchoFair" (74 : Nat) "bell") ∈ lw_tbl := lw_at lw_m5 225 rfl
theorem q1348 : (Jvm.Cond.stringRef "EchoFair" (76 : Nat) "horn") ∈ lw_tbl := lw_at lw_m5 226 rfl
theorem q1349 : (Jvm.Cond.classLink "EchoFair" (81 : Nat) "EchoFair$Valley") ∈ lw_all := lw_g (lw_at lw_m5 227 rfl) rfl
theorem q1351 : (Jvm.Cond.stringRef "EchoFair" (83 : Nat) "green") ∈ lw_tbl := lw_at lw_m5 229 rfl
theorem q1352 : (Jvm.Cond.methodLink "EchoFair" (85 : Nat) ({ cls := "EchoFair$Valley", name := "<init>", desc := "(Ljava/lang/String;IIII)V" } : Jvm.MethodName)) ∈ lw_all := lw_g (lw_at lw_m5 230 rfl) rfl
theorem q1361 : (Jvm.Cond.fieldLinkNest "EchoFair" (449 : Nat) "EchoFair$Valley" "name" "Ljava/lang/String;" "EchoFair") ∈ lw_tbl := lw_at lw_m5 239 rfl
theorem q1364 : (Jvm.Cond.fieldLinkNest "EchoFair" (274 : Nat) "EchoFair$Valley" "width" "I" "EchoFair") ∈ lw_tbl := lw_at lw_m6 2 rfl
theorem q1366 : (Jvm.Cond.fieldLinkNest "EchoFair" (277 : Nat) "EchoFair$Valley" "posts" "I" "EchoFair") ∈ lw_tbl := lw_at lw_m6 4 rfl
theorem q1368 : (Jvm.Cond.fieldLinkNest "EchoFair" (94 : Nat) "EchoFair$Valley" "tested" "[Z" "EchoFair") ∈ lw_tbl := lw_at lw_m6 6 rfl
theorem q1373 : (Jvm.Cond.fieldLinkNest "EchoFair" (288 : Nat) "EchoFair$Valley" "staff" "[I" "EchoFair") ∈ lw_tbl := lw_at lw_m6 11 rfl
theorem q1377 : (Jvm.Cond.fieldLinkNest "EchoFair" (280 : Nat) "EchoFair$Valley" "wage" "I" "EchoFair") ∈ lw_tbl := lw_at lw_m6 15 rfl
theorem q1381 : (Jvm.Cond.fieldLinkNest "EchoFair" (282 : Nat) "EchoFair$Valley" "purse" "I" "EchoFair") ∈ lw_tbl := lw_at lw_m6 19 rfl
theorem q1384 : (Jvm.Cond.fieldLinkNest "EchoFair" (285 : Nat) "EchoFair$Valley" "staffCount" "I" "EchoFair") ∈ lw_tbl := lw_at lw_m6 22 rfl
theorem q1387 : (Jvm.Cond.fieldLinkNest "EchoFair" (379 : Nat) "EchoFair$Valley" "replies" "I" "EchoFair") ∈ lw_tbl := lw_at lw_m6 25 rfl
theorem q1390 : (Jvm.Cond.fieldLinkNest "EchoFair" (382 : Nat) "EchoFair$Valley" "paid" "I" "EchoFair") ∈ lw_tbl := lw_at lw_m6 28 rfl
theorem q1413 : (Jvm.Cond.stringRef "EchoFair" (86 : Nat) "deep") ∈ lw_tbl := lw_at lw_m6 51 rfl
theorem q1414 : (Jvm.Cond.stringRef "EchoFair" (88 : Nat) "old") ∈ lw_tbl := lw_at lw_m6 52 rfl
theorem q1415 : (Jvm.Cond.methodLink "EchoFair" (90 : Nat) ({ cls := "EchoFair$State", name := "valley", desc := "(I)LEchoFair$Valley;" } : Jvm.MethodName)) ∈ lw_all := lw_g (lw_at lw_m6 53 rfl) rfl
theorem q1437 : (Jvm.Cond.classLink "EchoFair" (26 : Nat) "java/util/ArrayDeque") ∈ lw_all := lw_g (lw_at lw_m6 75 rfl) rfl
theorem q1439 : (Jvm.Cond.methodLink "EchoFair" (28 : Nat) ({ cls := "java/util/ArrayDeque", name := "<init>", desc := "(I)V" } : Jvm.MethodName)) ∈ lw_all := lw_g (lw_at lw_m6 77 rfl) rfl
theorem q1457 : (Jvm.Cond.classLink "EchoFair" (43 : Nat) "java/lang/StringBuilder") ∈ lw_all := lw_g (lw_at lw_m6 95 rfl) rfl
theorem q1458 : (Jvm.Cond.methodLink "EchoFair" (45 : Nat) ({ cls := "java/lang/StringBuilder", name := "<init>", desc := "()V" } : Jvm.MethodName)) ∈ lw_all := lw_g (lw_at lw_m6 96 rfl) rfl
theorem q1459 : (Jvm.Cond.fieldLink "EchoFair" (22 : Nat) "EchoFair" "state" "LEchoFair$State;") ∈ lw_all := lw_g (lw_at lw_m6 97 rfl) rfl
theorem q1461 : (Jvm.Cond.fieldLink "EchoFair" (443 : Nat) "EchoFair" "savedState" "LEchoFair$State;") ∈ lw_all := lw_g (lw_at lw_m6 99 rfl) rfl
theorem q1462 : (Jvm.Cond.fieldLink "EchoFair" (31 : Nat) "EchoFair" "history" "Ljava/util/ArrayDeque;") ∈ lw_all := lw_g (lw_at lw_m6 100 rfl) rfl
theorem q1464 : (Jvm.Cond.fieldLink "EchoFair" (35 : Nat) "EchoFair" "buffer" "[B") ∈ lw_all := lw_g (lw_at lw_m6 102 rfl) rfl
theorem q1466 : (Jvm.Cond.fieldLink "EchoFair" (126 : Nat) "EchoFair" "bufferLength" "I") ∈ lw_all := lw_g (lw_at lw_m6 104 rfl) rfl
theorem q1467 : (Jvm.Cond.fieldLink "EchoFair" (171 : Nat) "EchoFair" "errorCode" "I") ∈ lw_all := lw_g (lw_at lw_m6 105 rfl) rfl
theorem q1468 : (Jvm.Cond.fieldLink "EchoFair" (39 : Nat) "EchoFair" "errorPosition" "I") ∈ lw_all := lw_g (lw_at lw_m6 106 rfl) rfl
theorem q1469 : (Jvm.Cond.fieldLink "EchoFair" (46 : Nat) "EchoFair" "output" "Ljava/lang/StringBuilder;") ∈ lw_all := lw_g (lw_at lw_m6 107 rfl) rfl
theorem q1470 : (Jvm.Cond.lays "EchoFair" "EchoFair" "state" "LEchoFair$State;") ∈ lw_all := lw_g (lw_at lw_m6 108 rfl) rfl
theorem q1471 : (Jvm.Cond.soleField "EchoFair" "state") ∈ lw_all := lw_g (lw_at lw_m6 109 rfl) rfl
theorem q1472 : (Jvm.Cond.lays "EchoFair" "EchoFair" "savedState" "LEchoFair$State;") ∈ lw_all := lw_g (lw_at lw_m6 110 rfl) rfl
theorem q1473 : (Jvm.Cond.soleField "EchoFair" "savedState") ∈ lw_all := lw_g (lw_at lw_m6 111 rfl) rfl
theorem q1474 : (Jvm.Cond.laysFinal "EchoFair" "EchoFair" "history" "Ljava/util/ArrayDeque;") ∈ lw_all := lw_g (lw_at lw_m6 112 rfl) rfl
theorem q1475 : (Jvm.Cond.soleField "EchoFair" "history") ∈ lw_all := lw_g (lw_at lw_m6 113 rfl) rfl
theorem q1476 : (Jvm.Cond.laysFinal "EchoFair" "EchoFair" "buffer" "[B") ∈ lw_all := lw_g (lw_at lw_m6 114 rfl) rfl
theorem q1477 : (Jvm.Cond.soleField "EchoFair" "buffer") ∈ lw_all := lw_g (lw_at lw_m6 115 rfl) rfl
theorem q1478 : (Jvm.Cond.lays "EchoFair" "EchoFair" "bufferLength" "I") ∈ lw_all := lw_g (lw_at lw_m6 116 rfl) rfl
theorem q1479 : (Jvm.Cond.soleField "EchoFair" "bufferLength") ∈ lw_all := lw_g (lw_at lw_m6 117 rfl) rfl
theorem q1480 : (Jvm.Cond.lays "EchoFair" "EchoFair" "errorCode" "I") ∈ lw_all := lw_g (lw_at lw_m6 118 rfl) rfl
theorem q1481 : (Jvm.Cond.soleField "EchoFair" "errorCode") ∈ lw_all := lw_g (lw_at lw_m6 119 rfl) rfl
theorem q1482 : (Jvm.Cond.lays "EchoFair" "EchoFair" "errorPosition" "I") ∈ lw_all := lw_g (lw_at lw_m6 120 rfl) rfl
theorem q1483 : (Jvm.Cond.soleField "EchoFair" "errorPosition") ∈ lw_all := lw_g (lw_at lw_m6 121 rfl) rfl
theorem q1484 : (Jvm.Cond.laysFinal "EchoFair" "EchoFair" "output" "Ljava/lang/StringBuilder;") ∈ lw_all := lw_g (lw_at lw_m6 122 rfl) rfl
theorem q1485 : (Jvm.Cond.soleField "EchoFair" "output") ∈ lw_all := lw_g (lw_at lw_m6 123 rfl) rfl
theorem q1486 : (Jvm.Cond.superclass "EchoFair" "java/lang/Object") ∈ lw_all := lw_g (lw_at lw_m6 124 rfl) rfl
theorem q1488 : (Jvm.Cond.instanceMethod ({ cls := "EchoFair", name := "errorCode", desc := "()I" } : Jvm.MethodName)) ∈ lw_all := lw_g (lw_at lw_m6 126 rfl) rfl
theorem q1489 : (Jvm.Cond.selects "EchoFair" ({ cls := "EchoFair", name := "errorCode", desc := "()I" } : Jvm.MethodName) ({ cls := "EchoFair", name := "errorCode", desc := "()I" } : Jvm.MethodName)) ∈ lw_all := lw_g (lw_at lw_m6 127 rfl) rfl
theorem q1490 : (Jvm.Cond.code ({ cls := "EchoFair", name := "errorCode", desc := "()I" } : Jvm.MethodName) prog_1_method_18_code (1 : Nat) (Option.some Jvm.ClassFile.FieldType.int)) ∈ lw_all := lw_g (lw_at lw_m6 128 rfl) rfl
theorem q1492 : (Jvm.Cond.instanceMethod ({ cls := "EchoFair", name := "errorPosition", desc := "()I" } : Jvm.MethodName)) ∈ lw_all := lw_g (lw_at lw_m6 130 rfl) rfl
theorem q1493 : (Jvm.Cond.selects "EchoFair" ({ cls := "EchoFair", name := "errorPosition", desc := "()I" } : Jvm.MethodName) ({ cls := "EchoFair", name := "errorPosition", desc := "()I" } : Jvm.MethodName)) ∈ lw_all := lw_g (lw_at lw_m6 131 rfl) rfl
theorem q1494 : (Jvm.Cond.code ({ cls := "EchoFair", name := "errorPosition", desc := "()I" } : Jvm.MethodName) prog_1_method_19_code (1 : Nat) (Option.some Jvm.ClassFile.FieldType.int)) ∈ lw_all := lw_g (lw_at lw_m6 132 rfl) rfl
theorem q1496 : (Jvm.Cond.instanceMethod ({ cls := "EchoFair", name := "echoCount", desc := "()I" } : Jvm.MethodName)) ∈ lw_all := lw_g (lw_at lw_m6 134 rfl) rfl
theorem q1497 : (Jvm.Cond.selects "EchoFair" ({ cls := "EchoFair", name := "echoCount", desc := "()I" } : Jvm.MethodName) ({ cls := "EchoFair", name := "echoCount", desc := "()I" } : Jvm.MethodName)) ∈ lw_all := lw_g (lw_at lw_m6 135 rfl) rfl
theorem q1498 : (Jvm.Cond.code ({ cls := "EchoFair", name := "echoCount", desc := "()I" } : Jvm.MethodName) prog_1_method_20_code (1 : Nat) (Option.some Jvm.ClassFile.FieldType.int)) ∈ lw_all := lw_g (lw_at lw_m6 136 rfl) rfl
theorem q1499 : (Jvm.Cond.interfaceEntry "EchoFair" (195 : Nat)) ∈ lw_tbl := lw_at lw_m6 137 rfl
theorem q1500 : (Jvm.Cond.methodLink "EchoFair" (195 : Nat) ({ cls := "java/util/List", name := "size", desc := "()I" } : Jvm.MethodName)) ∈ lw_all := lw_g (lw_at lw_m6 138 rfl) rfl
theorem q1509 : (Jvm.Cond.instanceMethod ({ cls := "EchoFair", name := "valleyCount", desc := "()I" } : Jvm.MethodName)) ∈ lw_all := lw_g (lw_at lw_m6 147 rfl) rfl
theorem q1510 : (Jvm.Cond.selects "EchoFair" ({ cls := "EchoFair", name := "valleyCount", desc := "()I" } : Jvm.MethodName) ({ cls := "EchoFair", name := "valleyCount", desc := "()I" } : Jvm.MethodName)) ∈ lw_all := lw_g (lw_at lw_m6 148 rfl) rfl
theorem q1511 : (Jvm.Cond.code ({ cls := "EchoFair", name := "valleyCount", desc := "()I" } : Jvm.MethodName) prog_1_method_21_code (1 : Nat) (Option.some Jvm.ClassFile.FieldType.int)) ∈ lw_all := lw_g (lw_at lw_m6 149 rfl) rfl
theorem q1513 : (Jvm.Cond.instanceMethod ({ cls := "EchoFair", name := "day", desc := "()I" } : Jvm.MethodName)) ∈ lw_all := lw_g (lw_at lw_m6 151 rfl) rfl
theorem q1514 : (Jvm.Cond.selects "EchoFair" ({ cls := "EchoFair", name := "day", desc := "()I" } : Jvm.MethodName) ({ cls := "EchoFair", name := "day", desc := "()I" } : Jvm.MethodName)) ∈ lw_all := lw_g (lw_at lw_m6 152 rfl) rfl
theorem q1515 : (Jvm.Cond.code ({ cls := "EchoFair", name := "day", desc := "()I" } : Jvm.MethodName) prog_1_method_22_code (1 : Nat) (Option.some Jvm.ClassFile.FieldType.int)) ∈ lw_all := lw_g (lw_at lw_m6 153 rfl) rfl
theorem q1517 : (Jvm.Cond.instanceMethod ({ cls := "EchoFair", name := "seasonLength", desc := "()I" } : Jvm.MethodName)) ∈ lw_all := lw_g (lw_at lw_m6 155 rfl) rfl
theorem q1518 : (Jvm.Cond.selects "EchoFair" ({ cls := "EchoFair", name := "seasonLength", desc := "()I" } : Jvm.MethodName) ({ cls := "EchoFair", name := "seasonLength", desc := "()I" } : Jvm.MethodName)) ∈ lw_all := lw_g (lw_at lw_m6 156 rfl) rfl
theorem q1519 : (Jvm.Cond.code ({ cls := "EchoFair", name := "seasonLength", desc := "()I" } : Jvm.MethodName) prog_1_method_23_code (1 : Nat) (Option.some Jvm.ClassFile.FieldType.int)) ∈ lw_all := lw_g (lw_at lw_m6 157 rfl) rfl
theorem q1521 : (Jvm.Cond.instanceMethod ({ cls := "EchoFair", name := "findEcho", desc := "()I" } : Jvm.MethodName)) ∈ lw_all := lw_g (lw_at lw_m6 159 rfl) rfl
theorem q1522 : (Jvm.Cond.selects "EchoFair" ({ cls := "EchoFair", name := "findEcho", desc := "()I" } : Jvm.MethodName) ({ cls := "EchoFair", name := "findEcho", desc := "()I" } : Jvm.MethodName)) ∈ lw_all := lw_g (lw_at lw_m6 160 rfl) rfl
theorem q1523 : (Jvm.Cond.code ({ cls := "EchoFair", name := "findEcho", desc := "()I" } : Jvm.MethodName) prog_1_method_26_code (1 : Nat) (Option.some Jvm.ClassFile.FieldType.int)) ∈ lw_all := lw_g (lw_at lw_m6 161 rfl) rfl
theorem q1524 : (Jvm.Cond.methodLink "EchoFair" (230 : Nat) ({ cls := "EchoFair", name := "bufferName", desc := "()Ljava/lang/String;" } : Jvm.MethodName)) ∈ lw_all := lw_g (lw_at lw_m6 162 rfl) rfl
theorem q1525 : (Jvm.Cond.privateMethod ({ cls := "EchoFair", name := "bufferName", desc := "()Ljava/lang/String;" } : Jvm.MethodName)) ∈ lw_tbl := lw_at lw_m6 163 rfl
theorem q1526 : (Jvm.Cond.instanceMethod ({ cls := "EchoFair", name := "bufferName", desc := "()Ljava/lang/String;" } : Jvm.MethodName)) ∈ lw_all := lw_g (lw_at lw_m6 164 rfl) rfl
theorem q1527 : (Jvm.Cond.code ({ cls := "EchoFair", name := "bufferName", desc := "()Ljava/lang/String;" } : Jvm.MethodName) prog_1_method_25_code (3 : Nat) (Option.some (Jvm.ClassFile.FieldType.object "java/lang/String"))) ∈ lw_all := lw_g (lw_at lw_m6 165 rfl) rfl
theorem q1528 : (Jvm.Cond.constantLong "EchoFair" (216 : Nat) (97 : Int64)) ∈ lw_all := lw_g (lw_at lw_m6 166 rfl) rfl
theorem q1529 : (Jvm.Cond.constantLong "EchoFair" (218 : Nat) (122 : Int64)) ∈ lw_all := lw_g (lw_at lw_m6 167 rfl) rfl
theorem q1530 : (Jvm.Cond.methodLink "EchoFair" (137 : Nat) ({ cls := "EchoFair", name := "inRange", desc := "(JJJ)Z" } : Jvm.MethodName)) ∈ lw_all := lw_g (lw_at lw_m6 168 rfl) rfl
theorem q1531 : (Jvm.Cond.static ({ cls := "EchoFair", name := "inRange", desc := "(JJJ)Z" } : Jvm.MethodName)) ∈ lw_all := lw_g (lw_at lw_m6 169 rfl) rfl
theorem q1532 : (Jvm.Cond.code ({ cls := "EchoFair", name := "inRange", desc := "(JJJ)Z" } : Jvm.MethodName) prog_1_method_1_code (6 : Nat) (Option.some Jvm.ClassFile.FieldType.boolean)) ∈ lw_all := lw_g (lw_at lw_m6 170 rfl) rfl
theorem q1533 : (Jvm.Cond.stringRef "EchoFair" (220 : Nat) "") ∈ lw_tbl := lw_at lw_m6 171 rfl
theorem q1534 : (Jvm.Cond.methodLink "EchoFair" (222 : Nat) ({ cls := "java/lang/StringBuilder", name := "append", desc := "(C)Ljava/lang/StringBuilder;" } : Jvm.MethodName)) ∈ lw_all := lw_g (lw_at lw_m6 172 rfl) rfl
theorem q1535 : (Jvm.Cond.methodLink "EchoFair" (226 : Nat) ({ cls := "java/lang/StringBuilder", name := "toString", desc := "()Ljava/lang/String;" } : Jvm.MethodName)) ∈ lw_all := lw_g (lw_at lw_m6 173 rfl) rfl
theorem q1536 : (Jvm.Cond.methodLink "EchoFair" (233 : Nat) ({ cls := "EchoFair$State", name := "echoNamed", desc := "(Ljava/lang/String;)I" } : Jvm.MethodName)) ∈ lw_all := lw_g (lw_at lw_m6 174 rfl) rfl
theorem q1556 : (Jvm.Cond.instanceMethod ({ cls := "EchoFair", name := "findValley", desc := "()I" } : Jvm.MethodName)) ∈ lw_all := lw_g (lw_at lw_m6 194 rfl) rfl
theorem q1557 : (Jvm.Cond.selects "EchoFair" ({ cls := "EchoFair", name := "findValley", desc := "()I" } : Jvm.MethodName) ({ cls := "EchoFair", name := "findValley", desc := "()I" } : Jvm.MethodName)) ∈ lw_all := lw_g (lw_at lw_m6 195 rfl) rfl
theorem q1558 : (Jvm.Cond.code ({ cls := "EchoFair", name := "findValley", desc := "()I" } : Jvm.MethodName) prog_1_method_27_code (1 : Nat) (Option.some Jvm.ClassFile.FieldType.int)) ∈ lw_all := lw_g (lw_at lw_m6 196 rfl) rfl
theorem q1559 : (Jvm.Cond.methodLink "EchoFair" (237 : Nat) ({ cls := "EchoFair$State", name := "valleyNamed", desc := "(Ljava/lang/String;)I" } : Jvm.MethodName)) ∈ lw_all := lw_g (lw_at lw_m6 197 rfl) rfl
theorem q1565 : (Jvm.Cond.instanceMethod ({ cls := "EchoFair", name := "blockingPairs", desc := "()I" } : Jvm.MethodName)) ∈ lw_all := lw_g (lw_at lw_m6 203 rfl) rfl
theorem q1566 : (Jvm.Cond.selects "EchoFair" ({ cls := "EchoFair", name := "blockingPairs", desc := "()I" } : Jvm.MethodName) ({ cls := "EchoFair", name := "blockingPairs", desc := "()I" } : Jvm.MethodName)) ∈ lw_all := lw_g (lw_at lw_m6 204 rfl) rfl
theorem q1567 : (Jvm.Cond.code ({ cls := "EchoFair", name := "blockingPairs", desc := "()I" } : Jvm.MethodName) prog_1_method_52_code (4 : Nat) (Option.some Jvm.ClassFile.FieldType.int)) ∈ lw_all := lw_g (lw_at lw_m6 205 rfl) rfl
theorem q1568 : (Jvm.Cond.methodLink "EchoFair" (320 : Nat) ({ cls := "EchoFair", name := "isBlocking", desc := "(II)Z" } : Jvm.MethodName)) ∈ lw_all := lw_g (lw_at lw_m6 206 rfl) rfl
theorem q1569 : (Jvm.Cond.privateMethod ({ cls := "EchoFair", name := "isBlocking", desc := "(II)Z" } : Jvm.MethodName)) ∈ lw_tbl := lw_at lw_m6 207 rfl
theorem q1570 : (Jvm.Cond.instanceMethod ({ cls := "EchoFair", name := "isBlocking", desc := "(II)Z" } : Jvm.MethodName)) ∈ lw_all := lw_g (lw_at lw_m6 208 rfl) rfl
theorem q1571 : (Jvm.Cond.code ({ cls := "EchoFair", name := "isBlocking", desc := "(II)Z" } : Jvm.MethodName) prog_1_method_51_code (3 : Nat) (Option.some Jvm.ClassFile.FieldType.boolean)) ∈ lw_all := lw_g (lw_at lw_m6 209 rfl) rfl
theorem q1572 : (Jvm.Cond.methodLink "EchoFair" (243 : Nat) ({ cls := "EchoFair$State", name := "echo", desc := "(I)LEchoFair$Echo;" } : Jvm.MethodName)) ∈ lw_all := lw_g (lw_at lw_m6 210 rfl) rfl
theorem q1573 : (Jvm.Cond.methodLink "EchoFair" (300 : Nat) ({ cls := "EchoFair$State", name := "reason", desc := "(II)I" } : Jvm.MethodName)) ∈ lw_all := lw_g (lw_at lw_m6 211 rfl) rfl
theorem q1642 : (Jvm.Cond.selects "EchoFair" ({ cls := "java/lang/Object", name := "hashCode", desc := "()I" } : Jvm.MethodName) ({ cls := "java/lang/Object", name := "hashCode", desc := "()I" } : Jvm.MethodName)) ∈ lw_all := lw_g (lw_at lw_m7 40 rfl) rfl
theorem q1736 : (Jvm.Cond.selects "EchoFair" ({ cls := "java/lang/Object", name := "equals", desc := "(Ljava/lang/Object;)Z" } : Jvm.MethodName) ({ cls := "java/lang/Object", name := "equals", desc := "(Ljava/lang/Object;)Z" } : Jvm.MethodName)) ∈ lw_all := lw_g (lw_at lw_m7 134 rfl) rfl
theorem q2004 : (Jvm.Cond.methodLink "EchoFair" (314 : Nat) ({ cls := "EchoFair", name := "wantsToLeave", desc := "(II)Z" } : Jvm.MethodName)) ∈ lw_all := lw_g (lw_at lw_m8 162 rfl) rfl
theorem q2005 : (Jvm.Cond.privateMethod ({ cls := "EchoFair", name := "wantsToLeave", desc := "(II)Z" } : Jvm.MethodName)) ∈ lw_tbl := lw_at lw_m8 163 rfl
theorem q2006 : (Jvm.Cond.instanceMethod ({ cls := "EchoFair", name := "wantsToLeave", desc := "(II)Z" } : Jvm.MethodName)) ∈ lw_all := lw_g (lw_at lw_m8 164 rfl) rfl
theorem q2007 : (Jvm.Cond.code ({ cls := "EchoFair", name := "wantsToLeave", desc := "(II)Z" } : Jvm.MethodName) prog_1_method_49_code (4 : Nat) (Option.some Jvm.ClassFile.FieldType.boolean)) ∈ lw_all := lw_g (lw_at lw_m8 165 rfl) rfl
theorem q2008 : (Jvm.Cond.methodLink "EchoFair" (303 : Nat) ({ cls := "EchoFair$State", name := "prefersValley", desc := "(II)Z" } : Jvm.MethodName)) ∈ lw_all := lw_g (lw_at lw_m8 166 rfl) rfl
theorem q2012 : (Jvm.Cond.methodLink "EchoFair" (317 : Nat) ({ cls := "EchoFair", name := "wantsToHire", desc := "(II)Z" } : Jvm.MethodName)) ∈ lw_all := lw_g (lw_at lw_m8 170 rfl) rfl
theorem q2013 : (Jvm.Cond.privateMethod ({ cls := "EchoFair", name := "wantsToHire", desc := "(II)Z" } : Jvm.MethodName)) ∈ lw_tbl := lw_at lw_m8 171 rfl
theorem q2014 : (Jvm.Cond.instanceMethod ({ cls := "EchoFair", name := "wantsToHire", desc := "(II)Z" } : Jvm.MethodName)) ∈ lw_all := lw_g (lw_at lw_m8 172 rfl) rfl
theorem q2015 : (Jvm.Cond.code ({ cls := "EchoFair", name := "wantsToHire", desc := "(II)Z" } : Jvm.MethodName) prog_1_method_50_code (5 : Nat) (Option.some Jvm.ClassFile.FieldType.boolean)) ∈ lw_all := lw_g (lw_at lw_m8 173 rfl) rfl
theorem q2016 : (Jvm.Cond.methodLink "EchoFair" (311 : Nat) ({ cls := "EchoFair$Valley", name := "freePosts", desc := "()I" } : Jvm.MethodName)) ∈ lw_all := lw_g (lw_at lw_m8 174 rfl) rfl
theorem q2020 : (Jvm.Cond.methodLink "EchoFair" (307 : Nat) ({ cls := "EchoFair$State", name := "prefersEcho", desc := "(III)Z" } : Jvm.MethodName)) ∈ lw_all := lw_g (lw_at lw_m8 178 rfl) rfl
theorem q2025 : (Jvm.Cond.instanceMethod ({ cls := "EchoFair", name := "richestEcho", desc := "()I" } : Jvm.MethodName)) ∈ lw_all := lw_g (lw_at lw_m8 183 rfl) rfl
theorem q2026 : (Jvm.Cond.selects "EchoFair" ({ cls := "EchoFair", name := "richestEcho", desc := "()I" } : Jvm.MethodName) ({ cls := "EchoFair", name := "richestEcho", desc := "()I" } : Jvm.MethodName)) ∈ lw_all := lw_g (lw_at lw_m8 184 rfl) rfl
theorem q2027 : (Jvm.Cond.code ({ cls := "EchoFair", name := "richestEcho", desc := "()I" } : Jvm.MethodName) prog_1_method_60_code (3 : Nat) (Option.some Jvm.ClassFile.FieldType.int)) ∈ lw_all := lw_g (lw_at lw_m8 185 rfl) rfl
theorem q2029 : (Jvm.Cond.instanceMethod ({ cls := "EchoFair", name := "contractsMade", desc := "()I" } : Jvm.MethodName)) ∈ lw_all := lw_g (lw_at lw_m8 187 rfl) rfl
theorem q2030 : (Jvm.Cond.selects "EchoFair" ({ cls := "EchoFair", name := "contractsMade", desc := "()I" } : Jvm.MethodName) ({ cls := "EchoFair", name := "contractsMade", desc := "()I" } : Jvm.MethodName)) ∈ lw_all := lw_g (lw_at lw_m8 188 rfl) rfl
theorem q2031 : (Jvm.Cond.code ({ cls := "EchoFair", name := "contractsMade", desc := "()I" } : Jvm.MethodName) prog_1_method_62_code (1 : Nat) (Option.some Jvm.ClassFile.FieldType.int)) ∈ lw_all := lw_g (lw_at lw_m8 189 rfl) rfl
theorem q2033 : (Jvm.Cond.instanceMethod ({ cls := "EchoFair", name := "contractsEnded", desc := "()I" } : Jvm.MethodName)) ∈ lw_all := lw_g (lw_at lw_m8 191 rfl) rfl
theorem q2034 : (Jvm.Cond.selects "EchoFair" ({ cls := "EchoFair", name := "contractsEnded", desc := "()I" } : Jvm.MethodName) ({ cls := "EchoFair", name := "contractsEnded", desc := "()I" } : Jvm.MethodName)) ∈ lw_all := lw_g (lw_at lw_m8 192 rfl) rfl
theorem q2035 : (Jvm.Cond.code ({ cls := "EchoFair", name := "contractsEnded", desc := "()I" } : Jvm.MethodName) prog_1_method_63_code (1 : Nat) (Option.some Jvm.ClassFile.FieldType.int)) ∈ lw_all := lw_g (lw_at lw_m8 193 rfl) rfl
theorem q2037 : (Jvm.Cond.instanceMethod ({ cls := "EchoFair", name := "moneyImbalance", desc := "()I" } : Jvm.MethodName)) ∈ lw_all := lw_g (lw_at lw_m8 195 rfl) rfl
theorem q2038 : (Jvm.Cond.selects "EchoFair" ({ cls := "EchoFair", name := "moneyImbalance", desc := "()I" } : Jvm.MethodName) ({ cls := "EchoFair", name := "moneyImbalance", desc := "()I" } : Jvm.MethodName)) ∈ lw_all := lw_g (lw_at lw_m8 196 rfl) rfl
theorem q2039 : (Jvm.Cond.code ({ cls := "EchoFair", name := "moneyImbalance", desc := "()I" } : Jvm.MethodName) prog_1_method_67_code (4 : Nat) (Option.some Jvm.ClassFile.FieldType.int)) ∈ lw_all := lw_g (lw_at lw_m8 197 rfl) rfl
theorem q2040 : (Jvm.Cond.interfaceEntry "EchoFair" (394 : Nat)) ∈ lw_tbl := lw_at lw_m8 198 rfl
theorem q2041 : (Jvm.Cond.methodLink "EchoFair" (394 : Nat) ({ cls := "java/util/List", name := "iterator", desc := "()Ljava/util/Iterator;" } : Jvm.MethodName)) ∈ lw_all := lw_g (lw_at lw_m8 199 rfl) rfl
theorem q2068 : (Jvm.Cond.interfaceEntry "EchoFair" (398 : Nat)) ∈ lw_tbl := lw_at lw_m8 226 rfl
theorem q2069 : (Jvm.Cond.methodLink "EchoFair" (398 : Nat) ({ cls := "java/util/Iterator", name := "hasNext", desc := "()Z" } : Jvm.MethodName)) ∈ lw_all := lw_g (lw_at lw_m8 227 rfl) rfl
theorem q2102 : (Jvm.Cond.interfaceEntry "EchoFair" (404 : Nat)) ∈ lw_tbl := lw_at lw_m9 20 rfl
theorem q2103 : (Jvm.Cond.methodLink "EchoFair" (404 : Nat) ({ cls := "java/util/Iterator", name := "next", desc := "()Ljava/lang/Object;" } : Jvm.MethodName)) ∈ lw_all := lw_g (lw_at lw_m9 21 rfl) rfl
theorem q2180 : (Jvm.Cond.instanceMethod ({ cls := "EchoFair", name := "contractImbalance", desc := "()I" } : Jvm.MethodName)) ∈ lw_all := lw_g (lw_at lw_m9 98 rfl) rfl
theorem q2181 : (Jvm.Cond.selects "EchoFair" ({ cls := "EchoFair", name := "contractImbalance", desc := "()I" } : Jvm.MethodName) ({ cls := "EchoFair", name := "contractImbalance", desc := "()I" } : Jvm.MethodName)) ∈ lw_all := lw_g (lw_at lw_m9 99 rfl) rfl
theorem q2182 : (Jvm.Cond.code ({ cls := "EchoFair", name := "contractImbalance", desc := "()I" } : Jvm.MethodName) prog_1_method_69_code (1 : Nat) (Option.some Jvm.ClassFile.FieldType.int)) ∈ lw_all := lw_g (lw_at lw_m9 100 rfl) rfl
theorem q2183 : (Jvm.Cond.methodLink "EchoFair" (407 : Nat) ({ cls := "EchoFair", name := "contracts", desc := "()I" } : Jvm.MethodName)) ∈ lw_all := lw_g (lw_at lw_m9 101 rfl) rfl
theorem q2184 : (Jvm.Cond.privateMethod ({ cls := "EchoFair", name := "contracts", desc := "()I" } : Jvm.MethodName)) ∈ lw_tbl := lw_at lw_m9 102 rfl
theorem q2185 : (Jvm.Cond.instanceMethod ({ cls := "EchoFair", name := "contracts", desc := "()I" } : Jvm.MethodName)) ∈ lw_all := lw_g (lw_at lw_m9 103 rfl) rfl
theorem q2186 : (Jvm.Cond.code ({ cls := "EchoFair", name := "contracts", desc := "()I" } : Jvm.MethodName) prog_1_method_68_code (4 : Nat) (Option.some Jvm.ClassFile.FieldType.int)) ∈ lw_all := lw_g (lw_at lw_m9 104 rfl) rfl
theorem q2188 : (Jvm.Cond.instanceMethod ({ cls := "EchoFair", name := "doubleServants", desc := "()I" } : Jvm.MethodName)) ∈ lw_all := lw_g (lw_at lw_m9 106 rfl) rfl
theorem q2189 : (Jvm.Cond.selects "EchoFair" ({ cls := "EchoFair", name := "doubleServants", desc := "()I" } : Jvm.MethodName) ({ cls := "EchoFair", name := "doubleServants", desc := "()I" } : Jvm.MethodName)) ∈ lw_all := lw_g (lw_at lw_m9 107 rfl) rfl
theorem q2190 : (Jvm.Cond.code ({ cls := "EchoFair", name := "doubleServants", desc := "()I" } : Jvm.MethodName) prog_1_method_71_code (6 : Nat) (Option.some Jvm.ClassFile.FieldType.int)) ∈ lw_all := lw_g (lw_at lw_m9 108 rfl) rfl
theorem q2191 : (Jvm.Cond.methodLink "EchoFair" (410 : Nat) ({ cls := "EchoFair", name := "serves", desc := "(LEchoFair$Valley;I)Z" } : Jvm.MethodName)) ∈ lw_all := lw_g (lw_at lw_m9 109 rfl) rfl
theorem q2192 : (Jvm.Cond.privateMethod ({ cls := "EchoFair", name := "serves", desc := "(LEchoFair$Valley;I)Z" } : Jvm.MethodName)) ∈ lw_tbl := lw_at lw_m9 110 rfl
theorem q2193 : (Jvm.Cond.instanceMethod ({ cls := "EchoFair", name := "serves", desc := "(LEchoFair$Valley;I)Z" } : Jvm.MethodName)) ∈ lw_all := lw_g (lw_at lw_m9 111 rfl) rfl
theorem q2194 : (Jvm.Cond.code ({ cls := "EchoFair", name := "serves", desc := "(LEchoFair$Valley;I)Z" } : Jvm.MethodName) prog_1_method_70_code (4 : Nat) (Option.some Jvm.ClassFile.FieldType.boolean)) ∈ lw_all := lw_g (lw_at lw_m9 112 rfl) rfl
theorem q2196 : (Jvm.Cond.instanceMethod ({ cls := "EchoFair", name := "meanSavings", desc := "()D" } : Jvm.MethodName)) ∈ lw_all := lw_g (lw_at lw_m9 114 rfl) rfl
theorem q2197 : (Jvm.Cond.selects "EchoFair" ({ cls := "EchoFair", name := "meanSavings", desc := "()D" } : Jvm.MethodName) ({ cls := "EchoFair", name := "meanSavings", desc := "()D" } : Jvm.MethodName)) ∈ lw_all := lw_g (lw_at lw_m9 115 rfl) rfl
theorem q2198 : (Jvm.Cond.code ({ cls := "EchoFair", name := "meanSavings", desc := "()D" } : Jvm.MethodName) prog_1_method_72_code (4 : Nat) (Option.some Jvm.ClassFile.FieldType.double)) ∈ lw_all := lw_g (lw_at lw_m9 116 rfl) rfl
theorem q2200 : (Jvm.Cond.instanceMethod ({ cls := "EchoFair", name := "employmentRate", desc := "()F" } : Jvm.MethodName)) ∈ lw_all := lw_g (lw_at lw_m9 118 rfl) rfl
theorem q2201 : (Jvm.Cond.selects "EchoFair" ({ cls := "EchoFair", name := "employmentRate", desc := "()F" } : Jvm.MethodName) ({ cls := "EchoFair", name := "employmentRate", desc := "()F" } : Jvm.MethodName)) ∈ lw_all := lw_g (lw_at lw_m9 119 rfl) rfl
theorem q2202 : (Jvm.Cond.code ({ cls := "EchoFair", name := "employmentRate", desc := "()F" } : Jvm.MethodName) prog_1_method_73_code (1 : Nat) (Option.some Jvm.ClassFile.FieldType.float)) ∈ lw_all := lw_g (lw_at lw_m9 120 rfl) rfl
theorem q2204 : (Jvm.Cond.instanceMethod ({ cls := "EchoFair", name := "holdFair", desc := "()I" } : Jvm.MethodName)) ∈ lw_all := lw_g (lw_at lw_m9 122 rfl) rfl
theorem q2205 : (Jvm.Cond.selects "EchoFair" ({ cls := "EchoFair", name := "holdFair", desc := "()I" } : Jvm.MethodName) ({ cls := "EchoFair", name := "holdFair", desc := "()I" } : Jvm.MethodName)) ∈ lw_all := lw_g (lw_at lw_m9 123 rfl) rfl
theorem q2206 : (Jvm.Cond.code ({ cls := "EchoFair", name := "holdFair", desc := "()I" } : Jvm.MethodName) prog_1_method_75_code (1 : Nat) (Option.some Jvm.ClassFile.FieldType.int)) ∈ lw_all := lw_g (lw_at lw_m9 124 rfl) rfl
theorem q2207 : (Jvm.Cond.static ({ cls := "EchoFair", name := "lambda$holdFair$1", desc := "(LEchoFair$State;)I" } : Jvm.MethodName)) ∈ lw_all := lw_g (lw_at lw_m9 125 rfl) rfl
theorem q2208 : (Jvm.Cond.code ({ cls := "EchoFair", name := "lambda$holdFair$1", desc := "(LEchoFair$State;)I" } : Jvm.MethodName) prog_1_method_91_code (1 : Nat) (Option.some Jvm.ClassFile.FieldType.int)) ∈ lw_all := lw_g (lw_at lw_m9 126 rfl) rfl
theorem q2209 : (Jvm.Cond.methodLink "EchoFair" (475 : Nat) ({ cls := "EchoFair$State", name := "fair", desc := "()I" } : Jvm.MethodName)) ∈ lw_all := lw_g (lw_at lw_m9 127 rfl) rfl
theorem q2346 : (Jvm.Cond.methodLink "EchoFair" (419 : Nat) ({ cls := "EchoFair", name := "perform", desc := "(LEchoFair$Operation;)I" } : Jvm.MethodName)) ∈ lw_all := lw_g (lw_at lw_m10 24 rfl) rfl
theorem q2347 : (Jvm.Cond.privateMethod ({ cls := "EchoFair", name := "perform", desc := "(LEchoFair$Operation;)I" } : Jvm.MethodName)) ∈ lw_tbl := lw_at lw_m10 25 rfl
theorem q2348 : (Jvm.Cond.instanceMethod ({ cls := "EchoFair", name := "perform", desc := "(LEchoFair$Operation;)I" } : Jvm.MethodName)) ∈ lw_all := lw_g (lw_at lw_m10 26 rfl) rfl
theorem q2349 : (Jvm.Cond.code ({ cls := "EchoFair", name := "perform", desc := "(LEchoFair$Operation;)I" } : Jvm.MethodName) prog_1_method_7_code (4 : Nat) (Option.some Jvm.ClassFile.FieldType.int)) ∈ lw_all := lw_g (lw_at lw_m10 27 rfl) rfl
theorem q2350 : (Jvm.Cond.methodLink "EchoFair" (101 : Nat) ({ cls := "EchoFair$State", name := "copy", desc := "()LEchoFair$State;" } : Jvm.MethodName)) ∈ lw_all := lw_g (lw_at lw_m10 28 rfl) rfl
theorem q2940 : (Jvm.Cond.interfaceEntry "EchoFair" (104 : Nat)) ∈ lw_tbl := lw_at lw_m12 138 rfl
theorem q2941 : (Jvm.Cond.methodLink "EchoFair" (104 : Nat) ({ cls := "EchoFair$Operation", name := "apply", desc := "(LEchoFair$State;)I" } : Jvm.MethodName)) ∈ lw_all := lw_g (lw_at lw_m12 139 rfl) rfl
theorem q2944 : (Jvm.Cond.methodLink "EchoFair" (110 : Nat) ({ cls := "EchoFair", name := "record", desc := "(LEchoFair$State;)V" } : Jvm.MethodName)) ∈ lw_all := lw_g (lw_at lw_m12 142 rfl) rfl
theorem q2945 : (Jvm.Cond.privateMethod ({ cls := "EchoFair", name := "record", desc := "(LEchoFair$State;)V" } : Jvm.MethodName)) ∈ lw_tbl := lw_at lw_m12 143 rfl
theorem q2946 : (Jvm.Cond.instanceMethod ({ cls := "EchoFair", name := "record", desc := "(LEchoFair$State;)V" } : Jvm.MethodName)) ∈ lw_all := lw_g (lw_at lw_m12 144 rfl) rfl
theorem q2947 : (Jvm.Cond.code ({ cls := "EchoFair", name := "record", desc := "(LEchoFair$State;)V" } : Jvm.MethodName) prog_1_method_8_code (3 : Nat) (Option.none : Option Jvm.ClassFile.FieldType)) ∈ lw_all := lw_g (lw_at lw_m12 145 rfl) rfl
theorem q2948 : (Jvm.Cond.methodLink "EchoFair" (114 : Nat) ({ cls := "java/util/ArrayDeque", name := "size", desc := "()I" } : Jvm.MethodName)) ∈ lw_all := lw_g (lw_at lw_m12 146 rfl) rfl
theorem q2949 : (Jvm.Cond.methodLink "EchoFair" (118 : Nat) ({ cls := "java/util/ArrayDeque", name := "removeFirst", desc := "()Ljava/lang/Object;" } : Jvm.MethodName)) ∈ lw_all := lw_g (lw_at lw_m12 147 rfl) rfl
theorem q2950 : (Jvm.Cond.methodLink "EchoFair" (122 : Nat) ({ cls := "java/util/ArrayDeque", name := "addLast", desc := "(Ljava/lang/Object;)V" } : Jvm.MethodName)) ∈ lw_all := lw_g (lw_at lw_m12 148 rfl) rfl
theorem q2952 : (Jvm.Cond.instanceMethod ({ cls := "EchoFair", name := "save", desc := "()I" } : Jvm.MethodName)) ∈ lw_all := lw_g (lw_at lw_m12 150 rfl) rfl
theorem q2953 : (Jvm.Cond.selects "EchoFair" ({ cls := "EchoFair", name := "save", desc := "()I" } : Jvm.MethodName) ({ cls := "EchoFair", name := "save", desc := "()I" } : Jvm.MethodName)) ∈ lw_all := lw_g (lw_at lw_m12 151 rfl) rfl
theorem q2954 : (Jvm.Cond.code ({ cls := "EchoFair", name := "save", desc := "()I" } : Jvm.MethodName) prog_1_method_82_code (1 : Nat) (Option.some Jvm.ClassFile.FieldType.int)) ∈ lw_all := lw_g (lw_at lw_m12 152 rfl) rfl
theorem q2956 : (Jvm.Cond.instanceMethod ({ cls := "EchoFair", name := "formatContracts", desc := "()I" } : Jvm.MethodName)) ∈ lw_all := lw_g (lw_at lw_m12 154 rfl) rfl
theorem q2957 : (Jvm.Cond.selects "EchoFair" ({ cls := "EchoFair", name := "formatContracts", desc := "()I" } : Jvm.MethodName) ({ cls := "EchoFair", name := "formatContracts", desc := "()I" } : Jvm.MethodName)) ∈ lw_all := lw_g (lw_at lw_m12 155 rfl) rfl
theorem q2958 : (Jvm.Cond.code ({ cls := "EchoFair", name := "formatContracts", desc := "()I" } : Jvm.MethodName) prog_1_method_84_code (4 : Nat) (Option.some Jvm.ClassFile.FieldType.int)) ∈ lw_all := lw_g (lw_at lw_m12 156 rfl) rfl
theorem q2959 : (Jvm.Cond.methodLink "EchoFair" (446 : Nat) ({ cls := "java/lang/StringBuilder", name := "setLength", desc := "(I)V" } : Jvm.MethodName)) ∈ lw_all := lw_g (lw_at lw_m12 157 rfl) rfl
theorem q3027 : (Jvm.Cond.methodLink "EchoFair" (453 : Nat) ({ cls := "java/lang/StringBuilder", name := "append", desc := "(Ljava/lang/String;)Ljava/lang/StringBuilder;" } : Jvm.MethodName)) ∈ lw_all := lw_g (lw_at lw_m12 225 rfl) rfl
theorem q3028 : (Jvm.Cond.methodLink "EchoFair" (457 : Nat) ({ cls := "java/lang/StringBuilder", name := "length", desc := "()I" } : Jvm.MethodName)) ∈ lw_all := lw_g (lw_at lw_m12 226 rfl) rfl
theorem q3030 : (Jvm.Cond.instanceMethod ({ cls := "EchoFair", name := "outputByte", desc := "(I)I" } : Jvm.MethodName)) ∈ lw_all := lw_g (lw_at lw_m12 228 rfl) rfl
theorem q3031 : (Jvm.Cond.selects "EchoFair" ({ cls := "EchoFair", name := "outputByte", desc := "(I)I" } : Jvm.MethodName) ({ cls := "EchoFair", name := "outputByte", desc := "(I)I" } : Jvm.MethodName)) ∈ lw_all := lw_g (lw_at lw_m12 229 rfl) rfl
theorem q3032 : (Jvm.Cond.code ({ cls := "EchoFair", name := "outputByte", desc := "(I)I" } : Jvm.MethodName) prog_1_method_85_code (2 : Nat) (Option.some Jvm.ClassFile.FieldType.int)) ∈ lw_all := lw_g (lw_at lw_m12 230 rfl) rfl
theorem q3033 : (Jvm.Cond.methodLink "EchoFair" (460 : Nat) ({ cls := "java/lang/StringBuilder", name := "charAt", desc := "(I)C" } : Jvm.MethodName)) ∈ lw_all := lw_g (lw_at lw_m12 231 rfl) rfl
theorem q3039 : (Jvm.Cond.instanceMethod ({ cls := "EchoFair", name := "append", desc := "(IIIII)I" } : Jvm.MethodName)) ∈ lw_all := lw_g (lw_at lw_m12 237 rfl) rfl
theorem q3040 : (Jvm.Cond.selects "EchoFair" ({ cls := "EchoFair", name := "append", desc := "(IIIII)I" } : Jvm.MethodName) ({ cls := "EchoFair", name := "append", desc := "(IIIII)I" } : Jvm.MethodName)) ∈ lw_all := lw_g (lw_at lw_m12 238 rfl) rfl
theorem q3041 : (Jvm.Cond.code ({ cls := "EchoFair", name := "append", desc := "(IIIII)I" } : Jvm.MethodName) prog_1_method_10_code (6 : Nat) (Option.some Jvm.ClassFile.FieldType.int)) ∈ lw_all := lw_g (lw_at lw_m12 239 rfl) rfl
theorem q3042 : (Jvm.Cond.methodLink "EchoFair" (129 : Nat) ({ cls := "EchoFair", name := "checkState", desc := "(Z)V" } : Jvm.MethodName)) ∈ lw_all := lw_g (lw_at lw_m13 0 rfl) rfl
theorem q3043 : (Jvm.Cond.static ({ cls := "EchoFair", name := "checkState", desc := "(Z)V" } : Jvm.MethodName)) ∈ lw_all := lw_g (lw_at lw_m13 1 rfl) rfl
theorem q3044 : (Jvm.Cond.code ({ cls := "EchoFair", name := "checkState", desc := "(Z)V" } : Jvm.MethodName) prog_1_method_4_code (1 : Nat) (Option.none : Option Jvm.ClassFile.FieldType)) ∈ lw_all := lw_g (lw_at lw_m13 2 rfl) rfl
theorem q3045 : (Jvm.Cond.classLink "EchoFair" (10 : Nat) "java/lang/IllegalStateException") ∈ lw_all := lw_g (lw_at lw_m13 3 rfl) rfl
theorem q3046 : (Jvm.Cond.methodLink "EchoFair" (12 : Nat) ({ cls := "java/lang/IllegalStateException", name := "<init>", desc := "()V" } : Jvm.MethodName)) ∈ lw_all := lw_g (lw_at lw_m13 4 rfl) rfl
theorem q3056 : (Jvm.Cond.methodLink "EchoFair" (133 : Nat) ({ cls := "EchoFair", name := "appendWords", desc := "([I)V" } : Jvm.MethodName)) ∈ lw_all := lw_g (lw_at lw_m13 14 rfl) rfl
theorem q3057 : (Jvm.Cond.privateMethod ({ cls := "EchoFair", name := "appendWords", desc := "([I)V" } : Jvm.MethodName)) ∈ lw_tbl := lw_at lw_m13 15 rfl
theorem q3058 : (Jvm.Cond.instanceMethod ({ cls := "EchoFair", name := "appendWords", desc := "([I)V" } : Jvm.MethodName)) ∈ lw_all := lw_g (lw_at lw_m13 16 rfl) rfl
theorem q3059 : (Jvm.Cond.code ({ cls := "EchoFair", name := "appendWords", desc := "([I)V" } : Jvm.MethodName) prog_1_method_9_code (7 : Nat) (Option.none : Option Jvm.ClassFile.FieldType)) ∈ lw_all := lw_g (lw_at lw_m13 17 rfl) rfl
theorem q3065 : (Jvm.Cond.instanceMethod ({ cls := "EchoFair", name := "truncate", desc := "(I)I" } : Jvm.MethodName)) ∈ lw_all := lw_g (lw_at lw_m13 23 rfl) rfl
theorem q3066 : (Jvm.Cond.selects "EchoFair" ({ cls := "EchoFair", name := "truncate", desc := "(I)I" } : Jvm.MethodName) ({ cls := "EchoFair", name := "truncate", desc := "(I)I" } : Jvm.MethodName)) ∈ lw_all := lw_g (lw_at lw_m13 24 rfl) rfl
theorem q3067 : (Jvm.Cond.code ({ cls := "EchoFair", name := "truncate", desc := "(I)I" } : Jvm.MethodName) prog_1_method_11_code (2 : Nat) (Option.some Jvm.ClassFile.FieldType.int)) ∈ lw_all := lw_g (lw_at lw_m13 25 rfl) rfl
theorem q3068 : (Jvm.Cond.methodLink "EchoFair" (141 : Nat) ({ cls := "EchoFair", name := "checkArgument", desc := "(Z)V" } : Jvm.MethodName)) ∈ lw_all := lw_g (lw_at lw_m13 26 rfl) rfl
theorem q3069 : (Jvm.Cond.static ({ cls := "EchoFair", name := "checkArgument", desc := "(Z)V" } : Jvm.MethodName)) ∈ lw_all := lw_g (lw_at lw_m13 27 rfl) rfl
theorem q3070 : (Jvm.Cond.code ({ cls := "EchoFair", name := "checkArgument", desc := "(Z)V" } : Jvm.MethodName) prog_1_method_3_code (1 : Nat) (Option.none : Option Jvm.ClassFile.FieldType)) ∈ lw_all := lw_g (lw_at lw_m13 28 rfl) rfl
theorem q3071 : (Jvm.Cond.classLink "EchoFair" (7 : Nat) "java/lang/IllegalArgumentException") ∈ lw_all := lw_g (lw_at lw_m13 29 rfl) rfl
theorem q3072 : (Jvm.Cond.methodLink "EchoFair" (9 : Nat) ({ cls := "java/lang/IllegalArgumentException", name := "<init>", desc := "()V" } : Jvm.MethodName)) ∈ lw_all := lw_g (lw_at lw_m13 30 rfl) rfl
theorem q3080 : (Jvm.Cond.instanceMethod ({ cls := "EchoFair", name := "load", desc := "()I" } : Jvm.MethodName)) ∈ lw_all := lw_g (lw_at lw_m13 38 rfl) rfl
theorem q3081 : (Jvm.Cond.selects "EchoFair" ({ cls := "EchoFair", name := "load", desc := "()I" } : Jvm.MethodName) ({ cls := "EchoFair", name := "load", desc := "()I" } : Jvm.MethodName)) ∈ lw_all := lw_g (lw_at lw_m13 39 rfl) rfl
theorem q3082 : (Jvm.Cond.codeWith ({ cls := "EchoFair", name := "load", desc := "()I" } : Jvm.MethodName) prog_1_method_15_code (4 : Nat) (Option.some Jvm.ClassFile.FieldType.int) [((0 : Nat), (12 : Nat), (20 : Nat), (167 : Nat)), ((0 : Nat), (12 : Nat), (27 : Nat), (0 : Nat)), ((20 : Nat), (28 : Nat), (27 : Nat), (0 : Nat))]) ∈ lw_all := lw_g (lw_at lw_m13 40 rfl) rfl
theorem q3083 : (Jvm.Cond.classLink "EchoFair" (167 : Nat) "EchoFair$ParseError") ∈ lw_all := lw_g (lw_at lw_m13 41 rfl) rfl
theorem q3084 : (Jvm.Cond.classLink "EchoFair" (177 : Nat) "EchoFair$Parser") ∈ lw_all := lw_g (lw_at lw_m13 42 rfl) rfl
theorem q3086 : (Jvm.Cond.methodLink "EchoFair" (179 : Nat) ({ cls := "EchoFair$Parser", name := "<init>", desc := "(LEchoFair;)V" } : Jvm.MethodName)) ∈ lw_all := lw_g (lw_at lw_m13 44 rfl) rfl
theorem q3138 : (Jvm.Cond.methodLink "EchoFair" (182 : Nat) ({ cls := "EchoFair$Parser", name := "configuration", desc := "()LEchoFair$State;" } : Jvm.MethodName)) ∈ lw_all := lw_g (lw_at lw_m13 96 rfl) rfl
theorem q3171 : (Jvm.Cond.fieldLinkNest "EchoFair" (166 : Nat) "EchoFair$ParseError" "code" "I" "EchoFair") ∈ lw_tbl := lw_at lw_m13 129 rfl
theorem q3173 : (Jvm.Cond.fieldLinkNest "EchoFair" (174 : Nat) "EchoFair$ParseError" "position" "I" "EchoFair") ∈ lw_tbl := lw_at lw_m13 131 rfl
theorem q3261 : (Jvm.Cond.methodLink "EchoFair" (185 : Nat) ({ cls := "EchoFair", name := "report", desc := "(LEchoFair$ParseError;)Ljava/lang/IllegalArgumentException;" } : Jvm.MethodName)) ∈ lw_all := lw_g (lw_at lw_m13 219 rfl) rfl
theorem q3262 : (Jvm.Cond.privateMethod ({ cls := "EchoFair", name := "report", desc := "(LEchoFair$ParseError;)Ljava/lang/IllegalArgumentException;" } : Jvm.MethodName)) ∈ lw_tbl := lw_at lw_m13 220 rfl
theorem q3263 : (Jvm.Cond.instanceMethod ({ cls := "EchoFair", name := "report", desc := "(LEchoFair$ParseError;)Ljava/lang/IllegalArgumentException;" } : Jvm.MethodName)) ∈ lw_all := lw_g (lw_at lw_m13 221 rfl) rfl
theorem q3264 : (Jvm.Cond.code ({ cls := "EchoFair", name := "report", desc := "(LEchoFair$ParseError;)Ljava/lang/IllegalArgumentException;" } : Jvm.MethodName) prog_1_method_13_code (2 : Nat) (Option.some (Jvm.ClassFile.FieldType.object "java/lang/IllegalArgumentException"))) ∈ lw_all := lw_g (lw_at lw_m13 222 rfl) rfl
theorem q3265 : (Jvm.Cond.methodLink "EchoFair" (189 : Nat) ({ cls := "EchoFair", name := "clearError", desc := "()V" } : Jvm.MethodName)) ∈ lw_all := lw_g (lw_at lw_m13 223 rfl) rfl
theorem q3266 : (Jvm.Cond.privateMethod ({ cls := "EchoFair", name := "clearError", desc := "()V" } : Jvm.MethodName)) ∈ lw_tbl := lw_at lw_m13 224 rfl
theorem q3267 : (Jvm.Cond.instanceMethod ({ cls := "EchoFair", name := "clearError", desc := "()V" } : Jvm.MethodName)) ∈ lw_all := lw_g (lw_at lw_m13 225 rfl) rfl
theorem q3268 : (Jvm.Cond.code ({ cls := "EchoFair", name := "clearError", desc := "()V" } : Jvm.MethodName) prog_1_method_14_code (1 : Nat) (Option.none : Option Jvm.ClassFile.FieldType)) ∈ lw_all := lw_g (lw_at lw_m13 226 rfl) rfl
theorem q3269 : (Jvm.Cond.methodLink "EchoFair" (192 : Nat) ({ cls := "java/util/ArrayDeque", name := "clear", desc := "()V" } : Jvm.MethodName)) ∈ lw_all := lw_g (lw_at lw_m13 227 rfl) rfl
theorem q3280 : (Jvm.Cond.instanceMethod ({ cls := "EchoFair", name := "executeCommands", desc := "()I" } : Jvm.MethodName)) ∈ lw_all := lw_g (lw_at lw_m13 238 rfl) rfl
theorem q3281 : (Jvm.Cond.selects "EchoFair" ({ cls := "EchoFair", name := "executeCommands", desc := "()I" } : Jvm.MethodName) ({ cls := "EchoFair", name := "executeCommands", desc := "()I" } : Jvm.MethodName)) ∈ lw_all := lw_g (lw_at lw_m13 239 rfl) rfl
theorem q3282 : (Jvm.Cond.codeWith ({ cls := "EchoFair", name := "executeCommands", desc := "()I" } : Jvm.MethodName) prog_1_method_17_code (4 : Nat) (Option.some Jvm.ClassFile.FieldType.int) [((0 : Nat), (12 : Nat), (20 : Nat), (167 : Nat)), ((0 : Nat), (12 : Nat), (27 : Nat), (0 : Nat)), ((20 : Nat), (28 : Nat), (27 : Nat), (0 : Nat))]) ∈ lw_all := lw_g (lw_at lw_m14 0 rfl) rfl
theorem q3283 : (Jvm.Cond.methodLink "EchoFair" (196 : Nat) ({ cls := "EchoFair$Parser", name := "commands", desc := "()[LEchoFair$Operation;" } : Jvm.MethodName)) ∈ lw_all := lw_g (lw_at lw_m14 1 rfl) rfl
theorem q3290 : (Jvm.Cond.static ({ cls := "EchoFair", name := "isCommand", desc := "(Ljava/lang/String;)Z" } : Jvm.MethodName)) ∈ lw_all := lw_g (lw_at lw_m14 8 rfl) rfl
theorem q3291 : (Jvm.Cond.code ({ cls := "EchoFair", name := "isCommand", desc := "(Ljava/lang/String;)Z" } : Jvm.MethodName) prog_1_method_12_code (3 : Nat) (Option.some Jvm.ClassFile.FieldType.boolean)) ∈ lw_all := lw_g (lw_at lw_m14 9 rfl) rfl
theorem q3292 : (Jvm.Cond.methodLink "EchoFair" (144 : Nat) ({ cls := "java/lang/String", name := "hashCode", desc := "()I" } : Jvm.MethodName)) ∈ lw_all := lw_g (lw_at lw_m14 10 rfl) rfl
theorem q3293 : (Jvm.Cond.stringRef "EchoFair" (149 : Nat) "pass") ∈ lw_tbl := lw_at lw_m14 11 rfl
theorem q3294 : (Jvm.Cond.methodLink "EchoFair" (151 : Nat) ({ cls := "java/lang/String", name := "equals", desc := "(Ljava/lang/Object;)Z" } : Jvm.MethodName)) ∈ lw_all := lw_g (lw_at lw_m14 12 rfl) rfl
theorem q3295 : (Jvm.Cond.stringRef "EchoFair" (154 : Nat) "fair") ∈ lw_tbl := lw_at lw_m14 13 rfl
theorem q3296 : (Jvm.Cond.stringRef "EchoFair" (156 : Nat) "test") ∈ lw_tbl := lw_at lw_m14 14 rfl
theorem q3297 : (Jvm.Cond.stringRef "EchoFair" (158 : Nat) "dismiss") ∈ lw_tbl := lw_at lw_m14 15 rfl
theorem q3298 : (Jvm.Cond.stringRef "EchoFair" (160 : Nat) "wage") ∈ lw_tbl := lw_at lw_m14 16 rfl
theorem q3299 : (Jvm.Cond.stringRef "EchoFair" (162 : Nat) "fund") ∈ lw_tbl := lw_at lw_m14 17 rfl
theorem q3300 : (Jvm.Cond.stringRef "EchoFair" (164 : Nat) "train") ∈ lw_tbl := lw_at lw_m14 18 rfl
theorem q3455 : (Jvm.Cond.methodLink "EchoFair" (200 : Nat) ({ cls := "EchoFair", name := "execute", desc := "(LEchoFair$State;[LEchoFair$Operation;)I" } : Jvm.MethodName)) ∈ lw_all := lw_g (lw_at lw_m14 173 rfl) rfl
theorem q3456 : (Jvm.Cond.static ({ cls := "EchoFair", name := "execute", desc := "(LEchoFair$State;[LEchoFair$Operation;)I" } : Jvm.MethodName)) ∈ lw_all := lw_g (lw_at lw_m14 174 rfl) rfl
theorem q3457 : (Jvm.Cond.codeWith ({ cls := "EchoFair", name := "execute", desc := "(LEchoFair$State;[LEchoFair$Operation;)I" } : Jvm.MethodName) prog_1_method_16_code (4 : Nat) (Option.some Jvm.ClassFile.FieldType.int) [((2 : Nat), (24 : Nat), (27 : Nat), (10 : Nat))]) ∈ lw_all := lw_g (lw_at lw_m14 175 rfl) rfl
theorem q3462 : (Jvm.Cond.instanceMethod ({ cls := "EchoFair", name := "fogOf", desc := "(I)I" } : Jvm.MethodName)) ∈ lw_all := lw_g (lw_at lw_m14 180 rfl) rfl
theorem q3463 : (Jvm.Cond.selects "EchoFair" ({ cls := "EchoFair", name := "fogOf", desc := "(I)I" } : Jvm.MethodName) ({ cls := "EchoFair", name := "fogOf", desc := "(I)I" } : Jvm.MethodName)) ∈ lw_all := lw_g (lw_at lw_m14 181 rfl) rfl
theorem q3464 : (Jvm.Cond.code ({ cls := "EchoFair", name := "fogOf", desc := "(I)I" } : Jvm.MethodName) prog_1_method_24_code (2 : Nat) (Option.some Jvm.ClassFile.FieldType.int)) ∈ lw_all := lw_g (lw_at lw_m14 182 rfl) rfl
theorem q3465 : (Jvm.Cond.constantLong "EchoFair" (210 : Nat) (9999 : Int64)) ∈ lw_all := lw_g (lw_at lw_m14 183 rfl) rfl
theorem q3466 : (Jvm.Cond.methodLink "EchoFair" (212 : Nat) ({ cls := "EchoFair$State", name := "fog", desc := "(I)I" } : Jvm.MethodName)) ∈ lw_all := lw_g (lw_at lw_m14 184 rfl) rfl
theorem q3474 : (Jvm.Cond.instanceMethod ({ cls := "EchoFair", name := "delayOf", desc := "(I)I" } : Jvm.MethodName)) ∈ lw_all := lw_g (lw_at lw_m14 192 rfl) rfl
theorem q3475 : (Jvm.Cond.selects "EchoFair" ({ cls := "EchoFair", name := "delayOf", desc := "(I)I" } : Jvm.MethodName) ({ cls := "EchoFair", name := "delayOf", desc := "(I)I" } : Jvm.MethodName)) ∈ lw_all := lw_g (lw_at lw_m14 193 rfl) rfl
theorem q3476 : (Jvm.Cond.code ({ cls := "EchoFair", name := "delayOf", desc := "(I)I" } : Jvm.MethodName) prog_1_method_31_code (2 : Nat) (Option.some Jvm.ClassFile.FieldType.int)) ∈ lw_all := lw_g (lw_at lw_m14 194 rfl) rfl
theorem q3477 : (Jvm.Cond.methodLink "EchoFair" (247 : Nat) ({ cls := "EchoFair", name := "echoAt", desc := "(I)LEchoFair$Echo;" } : Jvm.MethodName)) ∈ lw_all := lw_g (lw_at lw_m14 195 rfl) rfl
theorem q3478 : (Jvm.Cond.privateMethod ({ cls := "EchoFair", name := "echoAt", desc := "(I)LEchoFair$Echo;" } : Jvm.MethodName)) ∈ lw_tbl := lw_at lw_m14 196 rfl
theorem q3479 : (Jvm.Cond.instanceMethod ({ cls := "EchoFair", name := "echoAt", desc := "(I)LEchoFair$Echo;" } : Jvm.MethodName)) ∈ lw_all := lw_g (lw_at lw_m14 197 rfl) rfl
theorem q3480 : (Jvm.Cond.code ({ cls := "EchoFair", name := "echoAt", desc := "(I)LEchoFair$Echo;" } : Jvm.MethodName) prog_1_method_28_code (2 : Nat) (Option.some (Jvm.ClassFile.FieldType.object "EchoFair$Echo"))) ∈ lw_all := lw_g (lw_at lw_m14 198 rfl) rfl
theorem q3481 : (Jvm.Cond.methodLink "EchoFair" (240 : Nat) ({ cls := "EchoFair", name := "checkIndex", desc := "(Z)V" } : Jvm.MethodName)) ∈ lw_all := lw_g (lw_at lw_m14 199 rfl) rfl
theorem q3482 : (Jvm.Cond.static ({ cls := "EchoFair", name := "checkIndex", desc := "(Z)V" } : Jvm.MethodName)) ∈ lw_all := lw_g (lw_at lw_m14 200 rfl) rfl
theorem q3483 : (Jvm.Cond.code ({ cls := "EchoFair", name := "checkIndex", desc := "(Z)V" } : Jvm.MethodName) prog_1_method_2_code (1 : Nat) (Option.none : Option Jvm.ClassFile.FieldType)) ∈ lw_all := lw_g (lw_at lw_m14 201 rfl) rfl
theorem q3484 : (Jvm.Cond.classLink "EchoFair" (1 : Nat) "java/lang/IndexOutOfBoundsException") ∈ lw_all := lw_g (lw_at lw_m14 202 rfl) rfl
theorem q3493 : (Jvm.Cond.methodLink "EchoFair" (3 : Nat) ({ cls := "java/lang/IndexOutOfBoundsException", name := "<init>", desc := "()V" } : Jvm.MethodName)) ∈ lw_all := lw_g (lw_at lw_m14 211 rfl) rfl
theorem q3503 : (Jvm.Cond.instanceMethod ({ cls := "EchoFair", name := "repeatsOf", desc := "(I)I" } : Jvm.MethodName)) ∈ lw_all := lw_g (lw_at lw_m14 221 rfl) rfl
theorem q3504 : (Jvm.Cond.selects "EchoFair" ({ cls := "EchoFair", name := "repeatsOf", desc := "(I)I" } : Jvm.MethodName) ({ cls := "EchoFair", name := "repeatsOf", desc := "(I)I" } : Jvm.MethodName)) ∈ lw_all := lw_g (lw_at lw_m14 222 rfl) rfl
theorem q3505 : (Jvm.Cond.code ({ cls := "EchoFair", name := "repeatsOf", desc := "(I)I" } : Jvm.MethodName) prog_1_method_32_code (2 : Nat) (Option.some Jvm.ClassFile.FieldType.int)) ∈ lw_all := lw_g (lw_at lw_m14 223 rfl) rfl
theorem q3510 : (Jvm.Cond.instanceMethod ({ cls := "EchoFair", name := "reserveWage", desc := "(I)I" } : Jvm.MethodName)) ∈ lw_all := lw_g (lw_at lw_m14 228 rfl) rfl
theorem q3511 : (Jvm.Cond.selects "EchoFair" ({ cls := "EchoFair", name := "reserveWage", desc := "(I)I" } : Jvm.MethodName) ({ cls := "EchoFair", name := "reserveWage", desc := "(I)I" } : Jvm.MethodName)) ∈ lw_all := lw_g (lw_at lw_m14 229 rfl) rfl
theorem q3512 : (Jvm.Cond.code ({ cls := "EchoFair", name := "reserveWage", desc := "(I)I" } : Jvm.MethodName) prog_1_method_33_code (2 : Nat) (Option.some Jvm.ClassFile.FieldType.int)) ∈ lw_all := lw_g (lw_at lw_m14 230 rfl) rfl
theorem q3517 : (Jvm.Cond.instanceMethod ({ cls := "EchoFair", name := "resistanceOf", desc := "(I)I" } : Jvm.MethodName)) ∈ lw_all := lw_g (lw_at lw_m14 235 rfl) rfl
theorem q3518 : (Jvm.Cond.selects "EchoFair" ({ cls := "EchoFair", name := "resistanceOf", desc := "(I)I" } : Jvm.MethodName) ({ cls := "EchoFair", name := "resistanceOf", desc := "(I)I" } : Jvm.MethodName)) ∈ lw_all := lw_g (lw_at lw_m14 236 rfl) rfl
theorem q3519 : (Jvm.Cond.code ({ cls := "EchoFair", name := "resistanceOf", desc := "(I)I" } : Jvm.MethodName) prog_1_method_34_code (2 : Nat) (Option.some Jvm.ClassFile.FieldType.int)) ∈ lw_all := lw_g (lw_at lw_m14 237 rfl) rfl
theorem q3524 : (Jvm.Cond.instanceMethod ({ cls := "EchoFair", name := "savingsOf", desc := "(I)I" } : Jvm.MethodName)) ∈ lw_all := lw_g (lw_at lw_m15 2 rfl) rfl
theorem q3525 : (Jvm.Cond.selects "EchoFair" ({ cls := "EchoFair", name := "savingsOf", desc := "(I)I" } : Jvm.MethodName) ({ cls := "EchoFair", name := "savingsOf", desc := "(I)I" } : Jvm.MethodName)) ∈ lw_all := lw_g (lw_at lw_m15 3 rfl) rfl
theorem q3526 : (Jvm.Cond.code ({ cls := "EchoFair", name := "savingsOf", desc := "(I)I" } : Jvm.MethodName) prog_1_method_35_code (2 : Nat) (Option.some Jvm.ClassFile.FieldType.int)) ∈ lw_all := lw_g (lw_at lw_m15 4 rfl) rfl
theorem q3531 : (Jvm.Cond.instanceMethod ({ cls := "EchoFair", name := "unpaidDays", desc := "(I)I" } : Jvm.MethodName)) ∈ lw_all := lw_g (lw_at lw_m15 9 rfl) rfl
theorem q3532 : (Jvm.Cond.selects "EchoFair" ({ cls := "EchoFair", name := "unpaidDays", desc := "(I)I" } : Jvm.MethodName) ({ cls := "EchoFair", name := "unpaidDays", desc := "(I)I" } : Jvm.MethodName)) ∈ lw_all := lw_g (lw_at lw_m15 10 rfl) rfl
theorem q3533 : (Jvm.Cond.code ({ cls := "EchoFair", name := "unpaidDays", desc := "(I)I" } : Jvm.MethodName) prog_1_method_36_code (2 : Nat) (Option.some Jvm.ClassFile.FieldType.int)) ∈ lw_all := lw_g (lw_at lw_m15 11 rfl) rfl
theorem q3538 : (Jvm.Cond.instanceMethod ({ cls := "EchoFair", name := "employerOf", desc := "(I)I" } : Jvm.MethodName)) ∈ lw_all := lw_g (lw_at lw_m15 16 rfl) rfl
theorem q3539 : (Jvm.Cond.selects "EchoFair" ({ cls := "EchoFair", name := "employerOf", desc := "(I)I" } : Jvm.MethodName) ({ cls := "EchoFair", name := "employerOf", desc := "(I)I" } : Jvm.MethodName)) ∈ lw_all := lw_g (lw_at lw_m15 17 rfl) rfl
theorem q3540 : (Jvm.Cond.code ({ cls := "EchoFair", name := "employerOf", desc := "(I)I" } : Jvm.MethodName) prog_1_method_37_code (2 : Nat) (Option.some Jvm.ClassFile.FieldType.int)) ∈ lw_all := lw_g (lw_at lw_m15 18 rfl) rfl
theorem q3545 : (Jvm.Cond.instanceMethod ({ cls := "EchoFair", name := "widthOf", desc := "(I)I" } : Jvm.MethodName)) ∈ lw_all := lw_g (lw_at lw_m15 23 rfl) rfl
theorem q3546 : (Jvm.Cond.selects "EchoFair" ({ cls := "EchoFair", name := "widthOf", desc := "(I)I" } : Jvm.MethodName) ({ cls := "EchoFair", name := "widthOf", desc := "(I)I" } : Jvm.MethodName)) ∈ lw_all := lw_g (lw_at lw_m15 24 rfl) rfl
theorem q3547 : (Jvm.Cond.code ({ cls := "EchoFair", name := "widthOf", desc := "(I)I" } : Jvm.MethodName) prog_1_method_38_code (2 : Nat) (Option.some Jvm.ClassFile.FieldType.int)) ∈ lw_all := lw_g (lw_at lw_m15 25 rfl) rfl
theorem q3548 : (Jvm.Cond.methodLink "EchoFair" (271 : Nat) ({ cls := "EchoFair", name := "valleyAt", desc := "(I)LEchoFair$Valley;" } : Jvm.MethodName)) ∈ lw_all := lw_g (lw_at lw_m15 26 rfl) rfl
theorem q3549 : (Jvm.Cond.privateMethod ({ cls := "EchoFair", name := "valleyAt", desc := "(I)LEchoFair$Valley;" } : Jvm.MethodName)) ∈ lw_tbl := lw_at lw_m15 27 rfl
theorem q3550 : (Jvm.Cond.instanceMethod ({ cls := "EchoFair", name := "valleyAt", desc := "(I)LEchoFair$Valley;" } : Jvm.MethodName)) ∈ lw_all := lw_g (lw_at lw_m15 28 rfl) rfl
theorem q3551 : (Jvm.Cond.code ({ cls := "EchoFair", name := "valleyAt", desc := "(I)LEchoFair$Valley;" } : Jvm.MethodName) prog_1_method_29_code (2 : Nat) (Option.some (Jvm.ClassFile.FieldType.object "EchoFair$Valley"))) ∈ lw_all := lw_g (lw_at lw_m15 29 rfl) rfl
theorem q3556 : (Jvm.Cond.instanceMethod ({ cls := "EchoFair", name := "postsOf", desc := "(I)I" } : Jvm.MethodName)) ∈ lw_all := lw_g (lw_at lw_m15 34 rfl) rfl
theorem q3557 : (Jvm.Cond.selects "EchoFair" ({ cls := "EchoFair", name := "postsOf", desc := "(I)I" } : Jvm.MethodName) ({ cls := "EchoFair", name := "postsOf", desc := "(I)I" } : Jvm.MethodName)) ∈ lw_all := lw_g (lw_at lw_m15 35 rfl) rfl
theorem q3558 : (Jvm.Cond.code ({ cls := "EchoFair", name := "postsOf", desc := "(I)I" } : Jvm.MethodName) prog_1_method_39_code (2 : Nat) (Option.some Jvm.ClassFile.FieldType.int)) ∈ lw_all := lw_g (lw_at lw_m15 36 rfl) rfl
theorem q3563 : (Jvm.Cond.instanceMethod ({ cls := "EchoFair", name := "wageOf", desc := "(I)I" } : Jvm.MethodName)) ∈ lw_all := lw_g (lw_at lw_m15 41 rfl) rfl
theorem q3564 : (Jvm.Cond.selects "EchoFair" ({ cls := "EchoFair", name := "wageOf", desc := "(I)I" } : Jvm.MethodName) ({ cls := "EchoFair", name := "wageOf", desc := "(I)I" } : Jvm.MethodName)) ∈ lw_all := lw_g (lw_at lw_m15 42 rfl) rfl
theorem q3565 : (Jvm.Cond.code ({ cls := "EchoFair", name := "wageOf", desc := "(I)I" } : Jvm.MethodName) prog_1_method_40_code (2 : Nat) (Option.some Jvm.ClassFile.FieldType.int)) ∈ lw_all := lw_g (lw_at lw_m15 43 rfl) rfl
theorem q3570 : (Jvm.Cond.instanceMethod ({ cls := "EchoFair", name := "purseOf", desc := "(I)I" } : Jvm.MethodName)) ∈ lw_all := lw_g (lw_at lw_m15 48 rfl) rfl
theorem q3571 : (Jvm.Cond.selects "EchoFair" ({ cls := "EchoFair", name := "purseOf", desc := "(I)I" } : Jvm.MethodName) ({ cls := "EchoFair", name := "purseOf", desc := "(I)I" } : Jvm.MethodName)) ∈ lw_all := lw_g (lw_at lw_m15 49 rfl) rfl
theorem q3572 : (Jvm.Cond.code ({ cls := "EchoFair", name := "purseOf", desc := "(I)I" } : Jvm.MethodName) prog_1_method_41_code (2 : Nat) (Option.some Jvm.ClassFile.FieldType.int)) ∈ lw_all := lw_g (lw_at lw_m15 50 rfl) rfl
theorem q3577 : (Jvm.Cond.instanceMethod ({ cls := "EchoFair", name := "staffCount", desc := "(I)I" } : Jvm.MethodName)) ∈ lw_all := lw_g (lw_at lw_m15 55 rfl) rfl
theorem q3578 : (Jvm.Cond.selects "EchoFair" ({ cls := "EchoFair", name := "staffCount", desc := "(I)I" } : Jvm.MethodName) ({ cls := "EchoFair", name := "staffCount", desc := "(I)I" } : Jvm.MethodName)) ∈ lw_all := lw_g (lw_at lw_m15 56 rfl) rfl
theorem q3579 : (Jvm.Cond.code ({ cls := "EchoFair", name := "staffCount", desc := "(I)I" } : Jvm.MethodName) prog_1_method_42_code (2 : Nat) (Option.some Jvm.ClassFile.FieldType.int)) ∈ lw_all := lw_g (lw_at lw_m15 57 rfl) rfl
theorem q3584 : (Jvm.Cond.instanceMethod ({ cls := "EchoFair", name := "staffMember", desc := "(II)I" } : Jvm.MethodName)) ∈ lw_all := lw_g (lw_at lw_m15 62 rfl) rfl
theorem q3585 : (Jvm.Cond.selects "EchoFair" ({ cls := "EchoFair", name := "staffMember", desc := "(II)I" } : Jvm.MethodName) ({ cls := "EchoFair", name := "staffMember", desc := "(II)I" } : Jvm.MethodName)) ∈ lw_all := lw_g (lw_at lw_m15 63 rfl) rfl
theorem q3586 : (Jvm.Cond.code ({ cls := "EchoFair", name := "staffMember", desc := "(II)I" } : Jvm.MethodName) prog_1_method_43_code (4 : Nat) (Option.some Jvm.ClassFile.FieldType.int)) ∈ lw_all := lw_g (lw_at lw_m15 64 rfl) rfl
theorem q3591 : (Jvm.Cond.instanceMethod ({ cls := "EchoFair", name := "isTested", desc := "(II)Z" } : Jvm.MethodName)) ∈ lw_all := lw_g (lw_at lw_m15 69 rfl) rfl
theorem q3592 : (Jvm.Cond.selects "EchoFair" ({ cls := "EchoFair", name := "isTested", desc := "(II)Z" } : Jvm.MethodName) ({ cls := "EchoFair", name := "isTested", desc := "(II)Z" } : Jvm.MethodName)) ∈ lw_all := lw_g (lw_at lw_m15 70 rfl) rfl
theorem q3593 : (Jvm.Cond.code ({ cls := "EchoFair", name := "isTested", desc := "(II)Z" } : Jvm.MethodName) prog_1_method_44_code (3 : Nat) (Option.some Jvm.ClassFile.FieldType.boolean)) ∈ lw_all := lw_g (lw_at lw_m15 71 rfl) rfl
theorem q3594 : (Jvm.Cond.methodLink "EchoFair" (292 : Nat) ({ cls := "EchoFair", name := "checkPair", desc := "(II)V" } : Jvm.MethodName)) ∈ lw_all := lw_g (lw_at lw_m15 72 rfl) rfl
theorem q3595 : (Jvm.Cond.privateMethod ({ cls := "EchoFair", name := "checkPair", desc := "(II)V" } : Jvm.MethodName)) ∈ lw_tbl := lw_at lw_m15 73 rfl
theorem q3596 : (Jvm.Cond.instanceMethod ({ cls := "EchoFair", name := "checkPair", desc := "(II)V" } : Jvm.MethodName)) ∈ lw_all := lw_g (lw_at lw_m15 74 rfl) rfl
theorem q3597 : (Jvm.Cond.code ({ cls := "EchoFair", name := "checkPair", desc := "(II)V" } : Jvm.MethodName) prog_1_method_30_code (3 : Nat) (Option.none : Option Jvm.ClassFile.FieldType)) ∈ lw_all := lw_g (lw_at lw_m15 75 rfl) rfl
theorem q3602 : (Jvm.Cond.instanceMethod ({ cls := "EchoFair", name := "seenScore", desc := "(II)I" } : Jvm.MethodName)) ∈ lw_all := lw_g (lw_at lw_m15 80 rfl) rfl
theorem q3603 : (Jvm.Cond.selects "EchoFair" ({ cls := "EchoFair", name := "seenScore", desc := "(II)I" } : Jvm.MethodName) ({ cls := "EchoFair", name := "seenScore", desc := "(II)I" } : Jvm.MethodName)) ∈ lw_all := lw_g (lw_at lw_m15 81 rfl) rfl
theorem q3604 : (Jvm.Cond.code ({ cls := "EchoFair", name := "seenScore", desc := "(II)I" } : Jvm.MethodName) prog_1_method_45_code (3 : Nat) (Option.some Jvm.ClassFile.FieldType.int)) ∈ lw_all := lw_g (lw_at lw_m15 82 rfl) rfl
theorem q3605 : (Jvm.Cond.methodLink "EchoFair" (296 : Nat) ({ cls := "EchoFair$State", name := "seenScore", desc := "(II)I" } : Jvm.MethodName)) ∈ lw_all := lw_g (lw_at lw_m15 83 rfl) rfl
theorem q3610 : (Jvm.Cond.instanceMethod ({ cls := "EchoFair", name := "pairReason", desc := "(II)I" } : Jvm.MethodName)) ∈ lw_all := lw_g (lw_at lw_m15 88 rfl) rfl
theorem q3611 : (Jvm.Cond.selects "EchoFair" ({ cls := "EchoFair", name := "pairReason", desc := "(II)I" } : Jvm.MethodName) ({ cls := "EchoFair", name := "pairReason", desc := "(II)I" } : Jvm.MethodName)) ∈ lw_all := lw_g (lw_at lw_m15 89 rfl) rfl
theorem q3612 : (Jvm.Cond.code ({ cls := "EchoFair", name := "pairReason", desc := "(II)I" } : Jvm.MethodName) prog_1_method_46_code (3 : Nat) (Option.some Jvm.ClassFile.FieldType.int)) ∈ lw_all := lw_g (lw_at lw_m15 90 rfl) rfl
theorem q3617 : (Jvm.Cond.instanceMethod ({ cls := "EchoFair", name := "preferredValley", desc := "(II)I" } : Jvm.MethodName)) ∈ lw_all := lw_g (lw_at lw_m15 95 rfl) rfl
theorem q3618 : (Jvm.Cond.selects "EchoFair" ({ cls := "EchoFair", name := "preferredValley", desc := "(II)I" } : Jvm.MethodName) ({ cls := "EchoFair", name := "preferredValley", desc := "(II)I" } : Jvm.MethodName)) ∈ lw_all := lw_g (lw_at lw_m15 96 rfl) rfl
theorem q3619 : (Jvm.Cond.code ({ cls := "EchoFair", name := "preferredValley", desc := "(II)I" } : Jvm.MethodName) prog_1_method_47_code (7 : Nat) (Option.some Jvm.ClassFile.FieldType.int)) ∈ lw_all := lw_g (lw_at lw_m15 97 rfl) rfl
theorem q3624 : (Jvm.Cond.instanceMethod ({ cls := "EchoFair", name := "preferredEcho", desc := "(II)I" } : Jvm.MethodName)) ∈ lw_all := lw_g (lw_at lw_m15 102 rfl) rfl
theorem q3625 : (Jvm.Cond.selects "EchoFair" ({ cls := "EchoFair", name := "preferredEcho", desc := "(II)I" } : Jvm.MethodName) ({ cls := "EchoFair", name := "preferredEcho", desc := "(II)I" } : Jvm.MethodName)) ∈ lw_all := lw_g (lw_at lw_m15 103 rfl) rfl
theorem q3626 : (Jvm.Cond.code ({ cls := "EchoFair", name := "preferredEcho", desc := "(II)I" } : Jvm.MethodName) prog_1_method_48_code (7 : Nat) (Option.some Jvm.ClassFile.FieldType.int)) ∈ lw_all := lw_g (lw_at lw_m15 104 rfl) rfl
theorem q3631 : (Jvm.Cond.instanceMethod ({ cls := "EchoFair", name := "fairResult", desc := "(I)I" } : Jvm.MethodName)) ∈ lw_all := lw_g (lw_at lw_m15 109 rfl) rfl
theorem q3632 : (Jvm.Cond.selects "EchoFair" ({ cls := "EchoFair", name := "fairResult", desc := "(I)I" } : Jvm.MethodName) ({ cls := "EchoFair", name := "fairResult", desc := "(I)I" } : Jvm.MethodName)) ∈ lw_all := lw_g (lw_at lw_m15 110 rfl) rfl
theorem q3633 : (Jvm.Cond.code ({ cls := "EchoFair", name := "fairResult", desc := "(I)I" } : Jvm.MethodName) prog_1_method_53_code (3 : Nat) (Option.some Jvm.ClassFile.FieldType.int)) ∈ lw_all := lw_g (lw_at lw_m15 111 rfl) rfl
theorem q3634 : (Jvm.Cond.classLink "EchoFair" (323 : Nat) "EchoFair$Matching") ∈ lw_all := lw_g (lw_at lw_m15 112 rfl) rfl
theorem q3635 : (Jvm.Cond.methodLink "EchoFair" (325 : Nat) ({ cls := "EchoFair$Matching", name := "<init>", desc := "(LEchoFair$State;)V" } : Jvm.MethodName)) ∈ lw_all := lw_g (lw_at lw_m15 113 rfl) rfl
theorem q3636 : (Jvm.Cond.methodLink "EchoFair" (327 : Nat) ({ cls := "EchoFair$Matching", name := "result", desc := "()[I" } : Jvm.MethodName)) ∈ lw_all := lw_g (lw_at lw_m15 114 rfl) rfl
theorem q3641 : (Jvm.Cond.instanceMethod ({ cls := "EchoFair", name := "savingsAfter", desc := "(II)I" } : Jvm.MethodName)) ∈ lw_all := lw_g (lw_at lw_m15 119 rfl) rfl
theorem q3642 : (Jvm.Cond.selects "EchoFair" ({ cls := "EchoFair", name := "savingsAfter", desc := "(II)I" } : Jvm.MethodName) ({ cls := "EchoFair", name := "savingsAfter", desc := "(II)I" } : Jvm.MethodName)) ∈ lw_all := lw_g (lw_at lw_m15 120 rfl) rfl
theorem q3643 : (Jvm.Cond.code ({ cls := "EchoFair", name := "savingsAfter", desc := "(II)I" } : Jvm.MethodName) prog_1_method_55_code (4 : Nat) (Option.some Jvm.ClassFile.FieldType.int)) ∈ lw_all := lw_g (lw_at lw_m15 121 rfl) rfl
theorem q3644 : (Jvm.Cond.methodLink "EchoFair" (337 : Nat) ({ cls := "EchoFair", name := "simulate", desc := "(I)LEchoFair$State;" } : Jvm.MethodName)) ∈ lw_all := lw_g (lw_at lw_m15 122 rfl) rfl
theorem q3645 : (Jvm.Cond.privateMethod ({ cls := "EchoFair", name := "simulate", desc := "(I)LEchoFair$State;" } : Jvm.MethodName)) ∈ lw_tbl := lw_at lw_m15 123 rfl
theorem q3646 : (Jvm.Cond.instanceMethod ({ cls := "EchoFair", name := "simulate", desc := "(I)LEchoFair$State;" } : Jvm.MethodName)) ∈ lw_all := lw_g (lw_at lw_m15 124 rfl) rfl
theorem q3647 : (Jvm.Cond.code ({ cls := "EchoFair", name := "simulate", desc := "(I)LEchoFair$State;" } : Jvm.MethodName) prog_1_method_54_code (2 : Nat) (Option.some (Jvm.ClassFile.FieldType.object "EchoFair$State"))) ∈ lw_all := lw_g (lw_at lw_m15 125 rfl) rfl
theorem q3648 : (Jvm.Cond.constantLong "EchoFair" (331 : Nat) (120 : Int64)) ∈ lw_all := lw_g (lw_at lw_m15 126 rfl) rfl
theorem q3649 : (Jvm.Cond.methodLink "EchoFair" (333 : Nat) ({ cls := "EchoFair$State", name := "after", desc := "(I)LEchoFair$State;" } : Jvm.MethodName)) ∈ lw_all := lw_g (lw_at lw_m15 127 rfl) rfl
theorem q3654 : (Jvm.Cond.instanceMethod ({ cls := "EchoFair", name := "purseAfter", desc := "(II)I" } : Jvm.MethodName)) ∈ lw_all := lw_g (lw_at lw_m15 132 rfl) rfl
theorem q3655 : (Jvm.Cond.selects "EchoFair" ({ cls := "EchoFair", name := "purseAfter", desc := "(II)I" } : Jvm.MethodName) ({ cls := "EchoFair", name := "purseAfter", desc := "(II)I" } : Jvm.MethodName)) ∈ lw_all := lw_g (lw_at lw_m15 133 rfl) rfl
theorem q3656 : (Jvm.Cond.code ({ cls := "EchoFair", name := "purseAfter", desc := "(II)I" } : Jvm.MethodName) prog_1_method_56_code (4 : Nat) (Option.some Jvm.ClassFile.FieldType.int)) ∈ lw_all := lw_g (lw_at lw_m15 134 rfl) rfl
theorem q3661 : (Jvm.Cond.instanceMethod ({ cls := "EchoFair", name := "desertsIn", desc := "(I)I" } : Jvm.MethodName)) ∈ lw_all := lw_g (lw_at lw_m15 139 rfl) rfl
theorem q3662 : (Jvm.Cond.selects "EchoFair" ({ cls := "EchoFair", name := "desertsIn", desc := "(I)I" } : Jvm.MethodName) ({ cls := "EchoFair", name := "desertsIn", desc := "(I)I" } : Jvm.MethodName)) ∈ lw_all := lw_g (lw_at lw_m15 140 rfl) rfl
theorem q3663 : (Jvm.Cond.code ({ cls := "EchoFair", name := "desertsIn", desc := "(I)I" } : Jvm.MethodName) prog_1_method_57_code (5 : Nat) (Option.some Jvm.ClassFile.FieldType.int)) ∈ lw_all := lw_g (lw_at lw_m15 141 rfl) rfl
theorem q3664 : (Jvm.Cond.methodLink "EchoFair" (343 : Nat) ({ cls := "EchoFair$State", name := "passDay", desc := "()V" } : Jvm.MethodName)) ∈ lw_all := lw_g (lw_at lw_m15 142 rfl) rfl
theorem q3669 : (Jvm.Cond.instanceMethod ({ cls := "EchoFair", name := "leastWage", desc := "(II)I" } : Jvm.MethodName)) ∈ lw_all := lw_g (lw_at lw_m15 147 rfl) rfl
theorem q3670 : (Jvm.Cond.selects "EchoFair" ({ cls := "EchoFair", name := "leastWage", desc := "(II)I" } : Jvm.MethodName) ({ cls := "EchoFair", name := "leastWage", desc := "(II)I" } : Jvm.MethodName)) ∈ lw_all := lw_g (lw_at lw_m15 148 rfl) rfl
theorem q3671 : (Jvm.Cond.code ({ cls := "EchoFair", name := "leastWage", desc := "(II)I" } : Jvm.MethodName) prog_1_method_58_code (5 : Nat) (Option.some Jvm.ClassFile.FieldType.int)) ∈ lw_all := lw_g (lw_at lw_m15 149 rfl) rfl
theorem q3672 : (Jvm.Cond.methodLink "EchoFair" (346 : Nat) ({ cls := "EchoFair$Matching", name := "resultWith", desc := "(II)[I" } : Jvm.MethodName)) ∈ lw_all := lw_g (lw_at lw_m15 150 rfl) rfl
theorem q3681 : (Jvm.Cond.instanceMethod ({ cls := "EchoFair", name := "bestTest", desc := "(I)I" } : Jvm.MethodName)) ∈ lw_all := lw_g (lw_at lw_m15 159 rfl) rfl
theorem q3682 : (Jvm.Cond.selects "EchoFair" ({ cls := "EchoFair", name := "bestTest", desc := "(I)I" } : Jvm.MethodName) ({ cls := "EchoFair", name := "bestTest", desc := "(I)I" } : Jvm.MethodName)) ∈ lw_all := lw_g (lw_at lw_m15 160 rfl) rfl
theorem q3683 : (Jvm.Cond.code ({ cls := "EchoFair", name := "bestTest", desc := "(I)I" } : Jvm.MethodName) prog_1_method_59_code (5 : Nat) (Option.some Jvm.ClassFile.FieldType.int)) ∈ lw_all := lw_g (lw_at lw_m15 161 rfl) rfl
theorem q3684 : (Jvm.Cond.methodLink "EchoFair" (350 : Nat) ({ cls := "EchoFair$Valley", name := "trueScore", desc := "(LEchoFair$Echo;)I" } : Jvm.MethodName)) ∈ lw_all := lw_g (lw_at lw_m15 162 rfl) rfl
theorem q3689 : (Jvm.Cond.instanceMethod ({ cls := "EchoFair", name := "daysServed", desc := "(II)I" } : Jvm.MethodName)) ∈ lw_all := lw_g (lw_at lw_m15 167 rfl) rfl
theorem q3690 : (Jvm.Cond.selects "EchoFair" ({ cls := "EchoFair", name := "daysServed", desc := "(II)I" } : Jvm.MethodName) ({ cls := "EchoFair", name := "daysServed", desc := "(II)I" } : Jvm.MethodName)) ∈ lw_all := lw_g (lw_at lw_m15 168 rfl) rfl
theorem q3691 : (Jvm.Cond.code ({ cls := "EchoFair", name := "daysServed", desc := "(II)I" } : Jvm.MethodName) prog_1_method_61_code (4 : Nat) (Option.some Jvm.ClassFile.FieldType.int)) ∈ lw_all := lw_g (lw_at lw_m15 169 rfl) rfl
theorem q3692 : (Jvm.Cond.classLink "EchoFair" (358 : Nat) "EchoFair$Pair") ∈ lw_all := lw_g (lw_at lw_m15 170 rfl) rfl
theorem q3693 : (Jvm.Cond.methodLink "EchoFair" (360 : Nat) ({ cls := "EchoFair$Pair", name := "<init>", desc := "(II)V" } : Jvm.MethodName)) ∈ lw_all := lw_g (lw_at lw_m15 171 rfl) rfl
theorem q3694 : (Jvm.Cond.methodLink "EchoFair" (362 : Nat) ({ cls := "java/util/HashMap", name := "get", desc := "(Ljava/lang/Object;)Ljava/lang/Object;" } : Jvm.MethodName)) ∈ lw_all := lw_g (lw_at lw_m15 172 rfl) rfl
theorem q3695 : (Jvm.Cond.classLink "EchoFair" (368 : Nat) "java/lang/Integer") ∈ lw_all := lw_g (lw_at lw_m15 173 rfl) rfl
theorem q3696 : (Jvm.Cond.methodLink "EchoFair" (370 : Nat) ({ cls := "java/lang/Integer", name := "intValue", desc := "()I" } : Jvm.MethodName)) ∈ lw_all := lw_g (lw_at lw_m15 174 rfl) rfl
theorem q3701 : (Jvm.Cond.instanceMethod ({ cls := "EchoFair", name := "desertions", desc := "(I)I" } : Jvm.MethodName)) ∈ lw_all := lw_g (lw_at lw_m15 179 rfl) rfl
theorem q3702 : (Jvm.Cond.selects "EchoFair" ({ cls := "EchoFair", name := "desertions", desc := "(I)I" } : Jvm.MethodName) ({ cls := "EchoFair", name := "desertions", desc := "(I)I" } : Jvm.MethodName)) ∈ lw_all := lw_g (lw_at lw_m15 180 rfl) rfl
theorem q3703 : (Jvm.Cond.code ({ cls := "EchoFair", name := "desertions", desc := "(I)I" } : Jvm.MethodName) prog_1_method_64_code (2 : Nat) (Option.some Jvm.ClassFile.FieldType.int)) ∈ lw_all := lw_g (lw_at lw_m15 181 rfl) rfl
theorem q3708 : (Jvm.Cond.instanceMethod ({ cls := "EchoFair", name := "repliesHeard", desc := "(I)I" } : Jvm.MethodName)) ∈ lw_all := lw_g (lw_at lw_m15 186 rfl) rfl
theorem q3709 : (Jvm.Cond.selects "EchoFair" ({ cls := "EchoFair", name := "repliesHeard", desc := "(I)I" } : Jvm.MethodName) ({ cls := "EchoFair", name := "repliesHeard", desc := "(I)I" } : Jvm.MethodName)) ∈ lw_all := lw_g (lw_at lw_m15 187 rfl) rfl
theorem q3710 : (Jvm.Cond.code ({ cls := "EchoFair", name := "repliesHeard", desc := "(I)I" } : Jvm.MethodName) prog_1_method_65_code (2 : Nat) (Option.some Jvm.ClassFile.FieldType.int)) ∈ lw_all := lw_g (lw_at lw_m15 188 rfl) rfl
theorem q3715 : (Jvm.Cond.instanceMethod ({ cls := "EchoFair", name := "wagesPaid", desc := "(I)I" } : Jvm.MethodName)) ∈ lw_all := lw_g (lw_at lw_m15 193 rfl) rfl
theorem q3716 : (Jvm.Cond.selects "EchoFair" ({ cls := "EchoFair", name := "wagesPaid", desc := "(I)I" } : Jvm.MethodName) ({ cls := "EchoFair", name := "wagesPaid", desc := "(I)I" } : Jvm.MethodName)) ∈ lw_all := lw_g (lw_at lw_m15 194 rfl) rfl
theorem q3717 : (Jvm.Cond.code ({ cls := "EchoFair", name := "wagesPaid", desc := "(I)I" } : Jvm.MethodName) prog_1_method_66_code (2 : Nat) (Option.some Jvm.ClassFile.FieldType.int)) ∈ lw_all := lw_g (lw_at lw_m15 195 rfl) rfl
theorem q3722 : (Jvm.Cond.instanceMethod ({ cls := "EchoFair", name := "passDays", desc := "(I)I" } : Jvm.MethodName)) ∈ lw_all := lw_g (lw_at lw_m15 200 rfl) rfl
theorem q3723 : (Jvm.Cond.selects "EchoFair" ({ cls := "EchoFair", name := "passDays", desc := "(I)I" } : Jvm.MethodName) ({ cls := "EchoFair", name := "passDays", desc := "(I)I" } : Jvm.MethodName)) ∈ lw_all := lw_g (lw_at lw_m15 201 rfl) rfl
theorem q3724 : (Jvm.Cond.code ({ cls := "EchoFair", name := "passDays", desc := "(I)I" } : Jvm.MethodName) prog_1_method_74_code (2 : Nat) (Option.some Jvm.ClassFile.FieldType.int)) ∈ lw_all := lw_g (lw_at lw_m15 202 rfl) rfl
theorem q3725 : (Jvm.Cond.constantLong "EchoFair" (414 : Nat) (60 : Int64)) ∈ lw_all := lw_g (lw_at lw_m15 203 rfl) rfl
theorem q3726 : (Jvm.Cond.static ({ cls := "EchoFair", name := "lambda$passDays$0", desc := "(ILEchoFair$State;)I" } : Jvm.MethodName)) ∈ lw_all := lw_g (lw_at lw_m15 204 rfl) rfl
theorem q3727 : (Jvm.Cond.code ({ cls := "EchoFair", name := "lambda$passDays$0", desc := "(ILEchoFair$State;)I" } : Jvm.MethodName) prog_1_method_92_code (2 : Nat) (Option.some Jvm.ClassFile.FieldType.int)) ∈ lw_all := lw_g (lw_at lw_m15 205 rfl) rfl
theorem q3728 : (Jvm.Cond.methodLink "EchoFair" (477 : Nat) ({ cls := "EchoFair$State", name := "passDays", desc := "(I)I" } : Jvm.MethodName)) ∈ lw_all := lw_g (lw_at lw_m15 206 rfl) rfl
theorem q3733 : (Jvm.Cond.instanceMethod ({ cls := "EchoFair", name := "test", desc := "(II)I" } : Jvm.MethodName)) ∈ lw_all := lw_g (lw_at lw_m15 211 rfl) rfl
theorem q3734 : (Jvm.Cond.selects "EchoFair" ({ cls := "EchoFair", name := "test", desc := "(II)I" } : Jvm.MethodName) ({ cls := "EchoFair", name := "test", desc := "(II)I" } : Jvm.MethodName)) ∈ lw_all := lw_g (lw_at lw_m15 212 rfl) rfl
theorem q3735 : (Jvm.Cond.code ({ cls := "EchoFair", name := "test", desc := "(II)I" } : Jvm.MethodName) prog_1_method_76_code (3 : Nat) (Option.some Jvm.ClassFile.FieldType.int)) ∈ lw_all := lw_g (lw_at lw_m15 213 rfl) rfl
theorem q3736 : (Jvm.Cond.static ({ cls := "EchoFair", name := "lambda$test$2", desc := "(IILEchoFair$State;)I" } : Jvm.MethodName)) ∈ lw_all := lw_g (lw_at lw_m15 214 rfl) rfl
theorem q3737 : (Jvm.Cond.code ({ cls := "EchoFair", name := "lambda$test$2", desc := "(IILEchoFair$State;)I" } : Jvm.MethodName) prog_1_method_90_code (3 : Nat) (Option.some Jvm.ClassFile.FieldType.int)) ∈ lw_all := lw_g (lw_at lw_m15 215 rfl) rfl
theorem q3738 : (Jvm.Cond.methodLink "EchoFair" (473 : Nat) ({ cls := "EchoFair$State", name := "test", desc := "(II)I" } : Jvm.MethodName)) ∈ lw_all := lw_g (lw_at lw_m15 216 rfl) rfl
theorem q3743 : (Jvm.Cond.instanceMethod ({ cls := "EchoFair", name := "dismiss", desc := "(I)I" } : Jvm.MethodName)) ∈ lw_all := lw_g (lw_at lw_m15 221 rfl) rfl
theorem q3744 : (Jvm.Cond.selects "EchoFair" ({ cls := "EchoFair", name := "dismiss", desc := "(I)I" } : Jvm.MethodName) ({ cls := "EchoFair", name := "dismiss", desc := "(I)I" } : Jvm.MethodName)) ∈ lw_all := lw_g (lw_at lw_m15 222 rfl) rfl
theorem q3745 : (Jvm.Cond.code ({ cls := "EchoFair", name := "dismiss", desc := "(I)I" } : Jvm.MethodName) prog_1_method_77_code (3 : Nat) (Option.some Jvm.ClassFile.FieldType.int)) ∈ lw_all := lw_g (lw_at lw_m15 223 rfl) rfl
theorem q3746 : (Jvm.Cond.static ({ cls := "EchoFair", name := "lambda$dismiss$3", desc := "(ILEchoFair$State;)I" } : Jvm.MethodName)) ∈ lw_all := lw_g (lw_at lw_m15 224 rfl) rfl
theorem q3747 : (Jvm.Cond.code ({ cls := "EchoFair", name := "lambda$dismiss$3", desc := "(ILEchoFair$State;)I" } : Jvm.MethodName) prog_1_method_89_code (2 : Nat) (Option.some Jvm.ClassFile.FieldType.int)) ∈ lw_all := lw_g (lw_at lw_m15 225 rfl) rfl
theorem q3748 : (Jvm.Cond.methodLink "EchoFair" (471 : Nat) ({ cls := "EchoFair$State", name := "dismiss", desc := "(I)I" } : Jvm.MethodName)) ∈ lw_all := lw_g (lw_at lw_m15 226 rfl) rfl
theorem q3753 : (Jvm.Cond.instanceMethod ({ cls := "EchoFair", name := "setWage", desc := "(II)I" } : Jvm.MethodName)) ∈ lw_all := lw_g (lw_at lw_m15 231 rfl) rfl
theorem q3754 : (Jvm.Cond.selects "EchoFair" ({ cls := "EchoFair", name := "setWage", desc := "(II)I" } : Jvm.MethodName) ({ cls := "EchoFair", name := "setWage", desc := "(II)I" } : Jvm.MethodName)) ∈ lw_all := lw_g (lw_at lw_m15 232 rfl) rfl
theorem q3755 : (Jvm.Cond.code ({ cls := "EchoFair", name := "setWage", desc := "(II)I" } : Jvm.MethodName) prog_1_method_78_code (4 : Nat) (Option.some Jvm.ClassFile.FieldType.int)) ∈ lw_all := lw_g (lw_at lw_m15 233 rfl) rfl
theorem q3756 : (Jvm.Cond.constantLong "EchoFair" (430 : Nat) (99 : Int64)) ∈ lw_all := lw_g (lw_at lw_m15 234 rfl) rfl
theorem q3757 : (Jvm.Cond.static ({ cls := "EchoFair", name := "lambda$setWage$4", desc := "(IILEchoFair$State;)I" } : Jvm.MethodName)) ∈ lw_all := lw_g (lw_at lw_m15 235 rfl) rfl
theorem q3758 : (Jvm.Cond.code ({ cls := "EchoFair", name := "lambda$setWage$4", desc := "(IILEchoFair$State;)I" } : Jvm.MethodName) prog_1_method_88_code (3 : Nat) (Option.some Jvm.ClassFile.FieldType.int)) ∈ lw_all := lw_g (lw_at lw_m15 236 rfl) rfl
theorem q3759 : (Jvm.Cond.methodLink "EchoFair" (468 : Nat) ({ cls := "EchoFair$State", name := "setWage", desc := "(II)I" } : Jvm.MethodName)) ∈ lw_all := lw_g (lw_at lw_m15 237 rfl) rfl
theorem q3764 : (Jvm.Cond.instanceMethod ({ cls := "EchoFair", name := "fund", desc := "(II)I" } : Jvm.MethodName)) ∈ lw_all := lw_g (lw_at lw_m16 2 rfl) rfl
theorem q3765 : (Jvm.Cond.selects "EchoFair" ({ cls := "EchoFair", name := "fund", desc := "(II)I" } : Jvm.MethodName) ({ cls := "EchoFair", name := "fund", desc := "(II)I" } : Jvm.MethodName)) ∈ lw_all := lw_g (lw_at lw_m16 3 rfl) rfl
theorem q3766 : (Jvm.Cond.code ({ cls := "EchoFair", name := "fund", desc := "(II)I" } : Jvm.MethodName) prog_1_method_79_code (4 : Nat) (Option.some Jvm.ClassFile.FieldType.int)) ∈ lw_all := lw_g (lw_at lw_m16 4 rfl) rfl
theorem q3767 : (Jvm.Cond.constantLong "EchoFair" (433 : Nat) (999 : Int64)) ∈ lw_all := lw_g (lw_at lw_m16 5 rfl) rfl
theorem q3768 : (Jvm.Cond.static ({ cls := "EchoFair", name := "lambda$fund$5", desc := "(IILEchoFair$State;)I" } : Jvm.MethodName)) ∈ lw_all := lw_g (lw_at lw_m16 6 rfl) rfl
theorem q3769 : (Jvm.Cond.code ({ cls := "EchoFair", name := "lambda$fund$5", desc := "(IILEchoFair$State;)I" } : Jvm.MethodName) prog_1_method_87_code (3 : Nat) (Option.some Jvm.ClassFile.FieldType.int)) ∈ lw_all := lw_g (lw_at lw_m16 7 rfl) rfl
theorem q3770 : (Jvm.Cond.methodLink "EchoFair" (466 : Nat) ({ cls := "EchoFair$State", name := "fund", desc := "(II)I" } : Jvm.MethodName)) ∈ lw_all := lw_g (lw_at lw_m16 8 rfl) rfl
theorem q3775 : (Jvm.Cond.instanceMethod ({ cls := "EchoFair", name := "train", desc := "(I)I" } : Jvm.MethodName)) ∈ lw_all := lw_g (lw_at lw_m16 13 rfl) rfl
theorem q3776 : (Jvm.Cond.selects "EchoFair" ({ cls := "EchoFair", name := "train", desc := "(I)I" } : Jvm.MethodName) ({ cls := "EchoFair", name := "train", desc := "(I)I" } : Jvm.MethodName)) ∈ lw_all := lw_g (lw_at lw_m16 14 rfl) rfl
theorem q3777 : (Jvm.Cond.code ({ cls := "EchoFair", name := "train", desc := "(I)I" } : Jvm.MethodName) prog_1_method_80_code (3 : Nat) (Option.some Jvm.ClassFile.FieldType.int)) ∈ lw_all := lw_g (lw_at lw_m16 15 rfl) rfl
theorem q3778 : (Jvm.Cond.static ({ cls := "EchoFair", name := "lambda$train$6", desc := "(ILEchoFair$State;)I" } : Jvm.MethodName)) ∈ lw_all := lw_g (lw_at lw_m16 16 rfl) rfl
theorem q3779 : (Jvm.Cond.code ({ cls := "EchoFair", name := "lambda$train$6", desc := "(ILEchoFair$State;)I" } : Jvm.MethodName) prog_1_method_86_code (2 : Nat) (Option.some Jvm.ClassFile.FieldType.int)) ∈ lw_all := lw_g (lw_at lw_m16 17 rfl) rfl
theorem q3780 : (Jvm.Cond.methodLink "EchoFair" (464 : Nat) ({ cls := "EchoFair$State", name := "train", desc := "(I)I" } : Jvm.MethodName)) ∈ lw_all := lw_g (lw_at lw_m16 18 rfl) rfl
theorem q3785 : (Jvm.Cond.instanceMethod ({ cls := "EchoFair", name := "undo", desc := "()I" } : Jvm.MethodName)) ∈ lw_all := lw_g (lw_at lw_m16 23 rfl) rfl
theorem q3786 : (Jvm.Cond.selects "EchoFair" ({ cls := "EchoFair", name := "undo", desc := "()I" } : Jvm.MethodName) ({ cls := "EchoFair", name := "undo", desc := "()I" } : Jvm.MethodName)) ∈ lw_all := lw_g (lw_at lw_m16 24 rfl) rfl
theorem q3787 : (Jvm.Cond.code ({ cls := "EchoFair", name := "undo", desc := "()I" } : Jvm.MethodName) prog_1_method_81_code (1 : Nat) (Option.some Jvm.ClassFile.FieldType.int)) ∈ lw_all := lw_g (lw_at lw_m16 25 rfl) rfl
theorem q3788 : (Jvm.Cond.methodLink "EchoFair" (437 : Nat) ({ cls := "java/util/ArrayDeque", name := "isEmpty", desc := "()Z" } : Jvm.MethodName)) ∈ lw_all := lw_g (lw_at lw_m16 26 rfl) rfl
theorem q3789 : (Jvm.Cond.methodLink "EchoFair" (440 : Nat) ({ cls := "java/util/ArrayDeque", name := "removeLast", desc := "()Ljava/lang/Object;" } : Jvm.MethodName)) ∈ lw_all := lw_g (lw_at lw_m16 27 rfl) rfl
theorem q3804 : (Jvm.Cond.instanceMethod ({ cls := "EchoFair", name := "restore", desc := "()I" } : Jvm.MethodName)) ∈ lw_all := lw_g (lw_at lw_m16 42 rfl) rfl
theorem q3805 : (Jvm.Cond.selects "EchoFair" ({ cls := "EchoFair", name := "restore", desc := "()I" } : Jvm.MethodName) ({ cls := "EchoFair", name := "restore", desc := "()I" } : Jvm.MethodName)) ∈ lw_all := lw_g (lw_at lw_m16 43 rfl) rfl
theorem q3806 : (Jvm.Cond.code ({ cls := "EchoFair", name := "restore", desc := "()I" } : Jvm.MethodName) prog_1_method_83_code (1 : Nat) (Option.some Jvm.ClassFile.FieldType.int)) ∈ lw_all := lw_g (lw_at lw_m16 44 rfl) rfl
theorem q4610 : (Jvm.Cond.castable "EchoFair" "java/lang/Object") ∈ lw_tbl := lw_at lw_m19 128 rfl
theorem q164 : (Jvm.Cond.initialized "EchoFair$State") ∈ lw_all := lw_g (lw_at lw_m1 2 rfl) rfl
theorem q243 : (Jvm.Cond.instantiable "EchoFair$State" (13 : Nat)) ∈ lw_all := lw_g (lw_at lw_m1 81 rfl) rfl
theorem q245 : (Jvm.Cond.instanceMethod ({ cls := "EchoFair$State", name := "<init>", desc := "(I[I)V" } : Jvm.MethodName)) ∈ lw_all := lw_g (lw_at lw_m1 83 rfl) rfl
theorem q246 : (Jvm.Cond.code ({ cls := "EchoFair$State", name := "<init>", desc := "(I[I)V" } : Jvm.MethodName) prog_8_method_1_code (3 : Nat) (Option.none : Option Jvm.ClassFile.FieldType)) ∈ lw_all := lw_g (lw_at lw_m1 84 rfl) rfl
theorem q247 : (Jvm.Cond.methodLink "EchoFair$State" (3 : Nat) ({ cls := "java/lang/Object", name := "<init>", desc := "()V" } : Jvm.MethodName)) ∈ lw_all := lw_g (lw_at lw_m1 85 rfl) rfl
theorem q248 : (Jvm.Cond.classLink "EchoFair$State" (9 : Nat) "java/util/ArrayList") ∈ lw_all := lw_g (lw_at lw_m1 86 rfl) rfl
theorem q250 : (Jvm.Cond.methodLink "EchoFair$State" (11 : Nat) ({ cls := "java/util/ArrayList", name := "<init>", desc := "(I)V" } : Jvm.MethodName)) ∈ lw_all := lw_g (lw_at lw_m1 88 rfl) rfl
theorem q599 : (Jvm.Cond.classLink "EchoFair$State" (23 : Nat) "java/util/LinkedHashSet") ∈ lw_all := lw_g (lw_at lw_m2 197 rfl) rfl
theorem q601 : (Jvm.Cond.methodLink "EchoFair$State" (25 : Nat) ({ cls := "java/util/LinkedHashSet", name := "<init>", desc := "()V" } : Jvm.MethodName)) ∈ lw_all := lw_g (lw_at lw_m2 199 rfl) rfl
theorem q979 : (Jvm.Cond.selects "EchoFair$State" ({ cls := "java/lang/Object", name := "getClass", desc := "()Ljava/lang/Class;" } : Jvm.MethodName) ({ cls := "java/lang/Object", name := "getClass", desc := "()Ljava/lang/Class;" } : Jvm.MethodName)) ∈ lw_all := lw_g (lw_at lw_m4 97 rfl) rfl
theorem q1042 : (Jvm.Cond.selects "EchoFair$State" ({ cls := "java/lang/Object", name := "toString", desc := "()Ljava/lang/String;" } : Jvm.MethodName) ({ cls := "java/lang/Object", name := "toString", desc := "()Ljava/lang/String;" } : Jvm.MethodName)) ∈ lw_all := lw_g (lw_at lw_m4 160 rfl) rfl
theorem q1184 : (Jvm.Cond.classLink "EchoFair$State" (30 : Nat) "java/util/HashMap") ∈ lw_all := lw_g (lw_at lw_m5 62 rfl) rfl
theorem q1186 : (Jvm.Cond.methodLink "EchoFair$State" (32 : Nat) ({ cls := "java/util/HashMap", name := "<init>", desc := "()V" } : Jvm.MethodName)) ∈ lw_all := lw_g (lw_at lw_m5 64 rfl) rfl
theorem q1199 : (Jvm.Cond.fieldLink "EchoFair$State" (37 : Nat) "EchoFair$State" "season" "I") ∈ lw_all := lw_g (lw_at lw_m5 77 rfl) rfl
theorem q1201 : (Jvm.Cond.fieldLink "EchoFair$State" (41 : Nat) "EchoFair$State" "fogs" "[I") ∈ lw_all := lw_g (lw_at lw_m5 79 rfl) rfl
theorem q1203 : (Jvm.Cond.fieldLink "EchoFair$State" (14 : Nat) "EchoFair$State" "echoes" "Ljava/util/List;") ∈ lw_all := lw_g (lw_at lw_m5 81 rfl) rfl
theorem q1207 : (Jvm.Cond.fieldLink "EchoFair$State" (20 : Nat) "EchoFair$State" "valleys" "Ljava/util/List;") ∈ lw_all := lw_g (lw_at lw_m5 85 rfl) rfl
theorem q1210 : (Jvm.Cond.fieldLink "EchoFair$State" (26 : Nat) "EchoFair$State" "deserted" "Ljava/util/LinkedHashSet;") ∈ lw_all := lw_g (lw_at lw_m5 88 rfl) rfl
theorem q1211 : (Jvm.Cond.fieldLink "EchoFair$State" (33 : Nat) "EchoFair$State" "served" "Ljava/util/HashMap;") ∈ lw_all := lw_g (lw_at lw_m5 89 rfl) rfl
theorem q1213 : (Jvm.Cond.fieldLink "EchoFair$State" (87 : Nat) "EchoFair$State" "day" "I") ∈ lw_all := lw_g (lw_at lw_m5 91 rfl) rfl
theorem q1215 : (Jvm.Cond.fieldLink "EchoFair$State" (90 : Nat) "EchoFair$State" "start" "I") ∈ lw_all := lw_g (lw_at lw_m5 93 rfl) rfl
theorem q1218 : (Jvm.Cond.fieldLink "EchoFair$State" (93 : Nat) "EchoFair$State" "earned" "I") ∈ lw_all := lw_g (lw_at lw_m5 96 rfl) rfl
theorem q1220 : (Jvm.Cond.fieldLink "EchoFair$State" (96 : Nat) "EchoFair$State" "funds" "I") ∈ lw_all := lw_g (lw_at lw_m5 98 rfl) rfl
theorem q1222 : (Jvm.Cond.fieldLink "EchoFair$State" (99 : Nat) "EchoFair$State" "trained" "I") ∈ lw_all := lw_g (lw_at lw_m5 100 rfl) rfl
theorem q1224 : (Jvm.Cond.fieldLink "EchoFair$State" (102 : Nat) "EchoFair$State" "made" "I") ∈ lw_all := lw_g (lw_at lw_m5 102 rfl) rfl
theorem q1226 : (Jvm.Cond.fieldLink "EchoFair$State" (105 : Nat) "EchoFair$State" "ended" "I") ∈ lw_all := lw_g (lw_at lw_m5 104 rfl) rfl
theorem q1228 : (Jvm.Cond.laysFinal "EchoFair$State" "EchoFair$State" "season" "I") ∈ lw_all := lw_g (lw_at lw_m5 106 rfl) rfl
theorem q1229 : (Jvm.Cond.soleField "EchoFair$State" "season") ∈ lw_all := lw_g (lw_at lw_m5 107 rfl) rfl
theorem q1230 : (Jvm.Cond.laysFinal "EchoFair$State" "EchoFair$State" "fogs" "[I") ∈ lw_all := lw_g (lw_at lw_m5 108 rfl) rfl
theorem q1231 : (Jvm.Cond.soleField "EchoFair$State" "fogs") ∈ lw_all := lw_g (lw_at lw_m5 109 rfl) rfl
theorem q1232 : (Jvm.Cond.laysFinal "EchoFair$State" "EchoFair$State" "echoes" "Ljava/util/List;") ∈ lw_all := lw_g (lw_at lw_m5 110 rfl) rfl
theorem q1233 : (Jvm.Cond.soleField "EchoFair$State" "echoes") ∈ lw_all := lw_g (lw_at lw_m5 111 rfl) rfl
theorem q1234 : (Jvm.Cond.laysFinal "EchoFair$State" "EchoFair$State" "valleys" "Ljava/util/List;") ∈ lw_all := lw_g (lw_at lw_m5 112 rfl) rfl
theorem q1235 : (Jvm.Cond.soleField "EchoFair$State" "valleys") ∈ lw_all := lw_g (lw_at lw_m5 113 rfl) rfl
theorem q1236 : (Jvm.Cond.laysFinal "EchoFair$State" "EchoFair$State" "deserted" "Ljava/util/LinkedHashSet;") ∈ lw_all := lw_g (lw_at lw_m5 114 rfl) rfl
theorem q1237 : (Jvm.Cond.soleField "EchoFair$State" "deserted") ∈ lw_all := lw_g (lw_at lw_m5 115 rfl) rfl
theorem q1238 : (Jvm.Cond.laysFinal "EchoFair$State" "EchoFair$State" "served" "Ljava/util/HashMap;") ∈ lw_all := lw_g (lw_at lw_m5 116 rfl) rfl
theorem q1239 : (Jvm.Cond.soleField "EchoFair$State" "served") ∈ lw_all := lw_g (lw_at lw_m5 117 rfl) rfl
theorem q1240 : (Jvm.Cond.lays "EchoFair$State" "EchoFair$State" "day" "I") ∈ lw_all := lw_g (lw_at lw_m5 118 rfl) rfl
theorem q1241 : (Jvm.Cond.soleField "EchoFair$State" "day") ∈ lw_all := lw_g (lw_at lw_m5 119 rfl) rfl
theorem q1242 : (Jvm.Cond.lays "EchoFair$State" "EchoFair$State" "start" "I") ∈ lw_all := lw_g (lw_at lw_m5 120 rfl) rfl
theorem q1243 : (Jvm.Cond.soleField "EchoFair$State" "start") ∈ lw_all := lw_g (lw_at lw_m5 121 rfl) rfl
theorem q1244 : (Jvm.Cond.lays "EchoFair$State" "EchoFair$State" "earned" "I") ∈ lw_all := lw_g (lw_at lw_m5 122 rfl) rfl
theorem q1245 : (Jvm.Cond.soleField "EchoFair$State" "earned") ∈ lw_all := lw_g (lw_at lw_m5 123 rfl) rfl
theorem q1246 : (Jvm.Cond.lays "EchoFair$State" "EchoFair$State" "funds" "I") ∈ lw_all := lw_g (lw_at lw_m5 124 rfl) rfl
theorem q1247 : (Jvm.Cond.soleField "EchoFair$State" "funds") ∈ lw_all := lw_g (lw_at lw_m5 125 rfl) rfl
theorem q1248 : (Jvm.Cond.lays "EchoFair$State" "EchoFair$State" "trained" "I") ∈ lw_all := lw_g (lw_at lw_m5 126 rfl) rfl
theorem q1249 : (Jvm.Cond.soleField "EchoFair$State" "trained") ∈ lw_all := lw_g (lw_at lw_m5 127 rfl) rfl
theorem q1250 : (Jvm.Cond.lays "EchoFair$State" "EchoFair$State" "made" "I") ∈ lw_all := lw_g (lw_at lw_m5 128 rfl) rfl
theorem q1251 : (Jvm.Cond.soleField "EchoFair$State" "made") ∈ lw_all := lw_g (lw_at lw_m5 129 rfl) rfl
theorem q1252 : (Jvm.Cond.lays "EchoFair$State" "EchoFair$State" "ended" "I") ∈ lw_all := lw_g (lw_at lw_m5 130 rfl) rfl
theorem q1253 : (Jvm.Cond.soleField "EchoFair$State" "ended") ∈ lw_all := lw_g (lw_at lw_m5 131 rfl) rfl
theorem q1254 : (Jvm.Cond.superclass "EchoFair$State" "java/lang/Object") ∈ lw_all := lw_g (lw_at lw_m5 132 rfl) rfl
theorem q1263 : (Jvm.Cond.fieldLinkNest "EchoFair$State" (120 : Nat) "EchoFair$Echo" "name" "Ljava/lang/String;" "EchoFair") ∈ lw_tbl := lw_at lw_m5 141 rfl
theorem q1270 : (Jvm.Cond.fieldLinkNest "EchoFair$State" (156 : Nat) "EchoFair$Echo" "reserve" "I" "EchoFair") ∈ lw_tbl := lw_at lw_m5 148 rfl
theorem q1273 : (Jvm.Cond.fieldLinkNest "EchoFair$State" (248 : Nat) "EchoFair$Echo" "resistance" "I" "EchoFair") ∈ lw_tbl := lw_at lw_m5 151 rfl
theorem q1277 : (Jvm.Cond.fieldLinkNest "EchoFair$State" (201 : Nat) "EchoFair$Echo" "repeats" "I" "EchoFair") ∈ lw_tbl := lw_at lw_m5 155 rfl
theorem q1280 : (Jvm.Cond.fieldLinkNest "EchoFair$State" (210 : Nat) "EchoFair$Echo" "savings" "I" "EchoFair") ∈ lw_tbl := lw_at lw_m5 158 rfl
theorem q1283 : (Jvm.Cond.fieldLinkNest "EchoFair$State" (176 : Nat) "EchoFair$Echo" "unpaid" "I" "EchoFair") ∈ lw_tbl := lw_at lw_m5 161 rfl
theorem q1287 : (Jvm.Cond.fieldLinkNest "EchoFair$State" (170 : Nat) "EchoFair$Echo" "employer" "I" "EchoFair") ∈ lw_tbl := lw_at lw_m5 165 rfl
theorem q1290 : (Jvm.Cond.fieldLinkNest "EchoFair$State" (252 : Nat) "EchoFair$Echo" "desertions" "I" "EchoFair") ∈ lw_tbl := lw_at lw_m5 168 rfl
theorem q1360 : (Jvm.Cond.fieldLinkNest "EchoFair$State" (133 : Nat) "EchoFair$Valley" "name" "Ljava/lang/String;" "EchoFair") ∈ lw_tbl := lw_at lw_m5 238 rfl
theorem q1363 : (Jvm.Cond.fieldLinkNest "EchoFair$State" (238 : Nat) "EchoFair$Valley" "width" "I" "EchoFair") ∈ lw_tbl := lw_at lw_m6 1 rfl
theorem q1369 : (Jvm.Cond.fieldLinkNest "EchoFair$State" (145 : Nat) "EchoFair$Valley" "tested" "[Z" "EchoFair") ∈ lw_tbl := lw_at lw_m6 7 rfl
theorem q1372 : (Jvm.Cond.fieldLinkNest "EchoFair$State" (216 : Nat) "EchoFair$Valley" "staff" "[I" "EchoFair") ∈ lw_tbl := lw_at lw_m6 10 rfl
theorem q1376 : (Jvm.Cond.fieldLinkNest "EchoFair$State" (153 : Nat) "EchoFair$Valley" "wage" "I" "EchoFair") ∈ lw_tbl := lw_at lw_m6 14 rfl
theorem q1380 : (Jvm.Cond.fieldLinkNest "EchoFair$State" (204 : Nat) "EchoFair$Valley" "purse" "I" "EchoFair") ∈ lw_tbl := lw_at lw_m6 18 rfl
theorem q1383 : (Jvm.Cond.fieldLinkNest "EchoFair$State" (213 : Nat) "EchoFair$Valley" "staffCount" "I" "EchoFair") ∈ lw_tbl := lw_at lw_m6 21 rfl
theorem q1386 : (Jvm.Cond.fieldLinkNest "EchoFair$State" (235 : Nat) "EchoFair$Valley" "replies" "I" "EchoFair") ∈ lw_tbl := lw_at lw_m6 24 rfl
theorem q1389 : (Jvm.Cond.fieldLinkNest "EchoFair$State" (207 : Nat) "EchoFair$Valley" "paid" "I" "EchoFair") ∈ lw_tbl := lw_at lw_m6 27 rfl
theorem q1416 : (Jvm.Cond.instanceMethod ({ cls := "EchoFair$State", name := "valley", desc := "(I)LEchoFair$Valley;" } : Jvm.MethodName)) ∈ lw_all := lw_g (lw_at lw_m6 54 rfl) rfl
theorem q1417 : (Jvm.Cond.selects "EchoFair$State" ({ cls := "EchoFair$State", name := "valley", desc := "(I)LEchoFair$Valley;" } : Jvm.MethodName) ({ cls := "EchoFair$State", name := "valley", desc := "(I)LEchoFair$Valley;" } : Jvm.MethodName)) ∈ lw_all := lw_g (lw_at lw_m6 55 rfl) rfl
theorem q1418 : (Jvm.Cond.code ({ cls := "EchoFair$State", name := "valley", desc := "(I)LEchoFair$Valley;" } : Jvm.MethodName) prog_8_method_4_code (2 : Nat) (Option.some (Jvm.ClassFile.FieldType.object "EchoFair$Valley"))) ∈ lw_all := lw_g (lw_at lw_m6 56 rfl) rfl
theorem q1419 : (Jvm.Cond.interfaceEntry "EchoFair$State" (108 : Nat)) ∈ lw_tbl := lw_at lw_m6 57 rfl
theorem q1420 : (Jvm.Cond.methodLink "EchoFair$State" (108 : Nat) ({ cls := "java/util/List", name := "get", desc := "(I)Ljava/lang/Object;" } : Jvm.MethodName)) ∈ lw_all := lw_g (lw_at lw_m6 58 rfl) rfl
theorem q1436 : (Jvm.Cond.classLink "EchoFair$State" (74 : Nat) "EchoFair$Valley") ∈ lw_all := lw_g (lw_at lw_m6 74 rfl) rfl
theorem q1537 : (Jvm.Cond.instanceMethod ({ cls := "EchoFair$State", name := "echoNamed", desc := "(Ljava/lang/String;)I" } : Jvm.MethodName)) ∈ lw_all := lw_g (lw_at lw_m6 175 rfl) rfl
theorem q1538 : (Jvm.Cond.selects "EchoFair$State" ({ cls := "EchoFair$State", name := "echoNamed", desc := "(Ljava/lang/String;)I" } : Jvm.MethodName) ({ cls := "EchoFair$State", name := "echoNamed", desc := "(Ljava/lang/String;)I" } : Jvm.MethodName)) ∈ lw_all := lw_g (lw_at lw_m6 176 rfl) rfl
theorem q1539 : (Jvm.Cond.code ({ cls := "EchoFair$State", name := "echoNamed", desc := "(Ljava/lang/String;)I" } : Jvm.MethodName) prog_8_method_5_code (3 : Nat) (Option.some Jvm.ClassFile.FieldType.int)) ∈ lw_all := lw_g (lw_at lw_m6 177 rfl) rfl
theorem q1540 : (Jvm.Cond.interfaceEntry "EchoFair$State" (112 : Nat)) ∈ lw_tbl := lw_at lw_m6 178 rfl
theorem q1541 : (Jvm.Cond.methodLink "EchoFair$State" (112 : Nat) ({ cls := "java/util/List", name := "size", desc := "()I" } : Jvm.MethodName)) ∈ lw_all := lw_g (lw_at lw_m6 179 rfl) rfl
theorem q1542 : (Jvm.Cond.methodLink "EchoFair$State" (116 : Nat) ({ cls := "EchoFair$State", name := "echo", desc := "(I)LEchoFair$Echo;" } : Jvm.MethodName)) ∈ lw_all := lw_g (lw_at lw_m6 180 rfl) rfl
theorem q1543 : (Jvm.Cond.instanceMethod ({ cls := "EchoFair$State", name := "echo", desc := "(I)LEchoFair$Echo;" } : Jvm.MethodName)) ∈ lw_all := lw_g (lw_at lw_m6 181 rfl) rfl
theorem q1544 : (Jvm.Cond.selects "EchoFair$State" ({ cls := "EchoFair$State", name := "echo", desc := "(I)LEchoFair$Echo;" } : Jvm.MethodName) ({ cls := "EchoFair$State", name := "echo", desc := "(I)LEchoFair$Echo;" } : Jvm.MethodName)) ∈ lw_all := lw_g (lw_at lw_m6 182 rfl) rfl
theorem q1545 : (Jvm.Cond.code ({ cls := "EchoFair$State", name := "echo", desc := "(I)LEchoFair$Echo;" } : Jvm.MethodName) prog_8_method_3_code (2 : Nat) (Option.some (Jvm.ClassFile.FieldType.object "EchoFair$Echo"))) ∈ lw_all := lw_g (lw_at lw_m6 183 rfl) rfl
theorem q1546 : (Jvm.Cond.classLink "EchoFair$State" (64 : Nat) "EchoFair$Echo") ∈ lw_all := lw_g (lw_at lw_m6 184 rfl) rfl
theorem q1547 : (Jvm.Cond.methodLink "EchoFair$State" (124 : Nat) ({ cls := "java/lang/String", name := "equals", desc := "(Ljava/lang/Object;)Z" } : Jvm.MethodName)) ∈ lw_all := lw_g (lw_at lw_m6 185 rfl) rfl
theorem q1560 : (Jvm.Cond.instanceMethod ({ cls := "EchoFair$State", name := "valleyNamed", desc := "(Ljava/lang/String;)I" } : Jvm.MethodName)) ∈ lw_all := lw_g (lw_at lw_m6 198 rfl) rfl
theorem q1561 : (Jvm.Cond.selects "EchoFair$State" ({ cls := "EchoFair$State", name := "valleyNamed", desc := "(Ljava/lang/String;)I" } : Jvm.MethodName) ({ cls := "EchoFair$State", name := "valleyNamed", desc := "(Ljava/lang/String;)I" } : Jvm.MethodName)) ∈ lw_all := lw_g (lw_at lw_m6 199 rfl) rfl
theorem q1562 : (Jvm.Cond.code ({ cls := "EchoFair$State", name := "valleyNamed", desc := "(Ljava/lang/String;)I" } : Jvm.MethodName) prog_8_method_6_code (3 : Nat) (Option.some Jvm.ClassFile.FieldType.int)) ∈ lw_all := lw_g (lw_at lw_m6 200 rfl) rfl
theorem q1563 : (Jvm.Cond.methodLink "EchoFair$State" (129 : Nat) ({ cls := "EchoFair$State", name := "valley", desc := "(I)LEchoFair$Valley;" } : Jvm.MethodName)) ∈ lw_all := lw_g (lw_at lw_m6 201 rfl) rfl
theorem q1574 : (Jvm.Cond.instanceMethod ({ cls := "EchoFair$State", name := "reason", desc := "(II)I" } : Jvm.MethodName)) ∈ lw_all := lw_g (lw_at lw_m6 212 rfl) rfl
theorem q1575 : (Jvm.Cond.selects "EchoFair$State" ({ cls := "EchoFair$State", name := "reason", desc := "(II)I" } : Jvm.MethodName) ({ cls := "EchoFair$State", name := "reason", desc := "(II)I" } : Jvm.MethodName)) ∈ lw_all := lw_g (lw_at lw_m6 213 rfl) rfl
theorem q1576 : (Jvm.Cond.code ({ cls := "EchoFair$State", name := "reason", desc := "(II)I" } : Jvm.MethodName) prog_8_method_10_code (3 : Nat) (Option.some Jvm.ClassFile.FieldType.int)) ∈ lw_all := lw_g (lw_at lw_m6 214 rfl) rfl
theorem q1577 : (Jvm.Cond.methodLink "EchoFair$State" (159 : Nat) ({ cls := "EchoFair$State", name := "seenScore", desc := "(II)I" } : Jvm.MethodName)) ∈ lw_all := lw_g (lw_at lw_m6 215 rfl) rfl
theorem q1578 : (Jvm.Cond.instanceMethod ({ cls := "EchoFair$State", name := "seenScore", desc := "(II)I" } : Jvm.MethodName)) ∈ lw_all := lw_g (lw_at lw_m6 216 rfl) rfl
theorem q1579 : (Jvm.Cond.selects "EchoFair$State" ({ cls := "EchoFair$State", name := "seenScore", desc := "(II)I" } : Jvm.MethodName) ({ cls := "EchoFair$State", name := "seenScore", desc := "(II)I" } : Jvm.MethodName)) ∈ lw_all := lw_g (lw_at lw_m6 217 rfl) rfl
theorem q1580 : (Jvm.Cond.code ({ cls := "EchoFair$State", name := "seenScore", desc := "(II)I" } : Jvm.MethodName) prog_8_method_9_code (3 : Nat) (Option.some Jvm.ClassFile.FieldType.int)) ∈ lw_all := lw_g (lw_at lw_m6 218 rfl) rfl
theorem q1581 : (Jvm.Cond.methodLink "EchoFair$State" (149 : Nat) ({ cls := "EchoFair$Valley", name := "trueScore", desc := "(LEchoFair$Echo;)I" } : Jvm.MethodName)) ∈ lw_all := lw_g (lw_at lw_m6 219 rfl) rfl
theorem q1588 : (Jvm.Cond.methodLink "EchoFair$State" (163 : Nat) ({ cls := "EchoFair$State", name := "hasDeserted", desc := "(II)Z" } : Jvm.MethodName)) ∈ lw_all := lw_g (lw_at lw_m6 226 rfl) rfl
theorem q1589 : (Jvm.Cond.instanceMethod ({ cls := "EchoFair$State", name := "hasDeserted", desc := "(II)Z" } : Jvm.MethodName)) ∈ lw_all := lw_g (lw_at lw_m6 227 rfl) rfl
theorem q1590 : (Jvm.Cond.selects "EchoFair$State" ({ cls := "EchoFair$State", name := "hasDeserted", desc := "(II)Z" } : Jvm.MethodName) ({ cls := "EchoFair$State", name := "hasDeserted", desc := "(II)Z" } : Jvm.MethodName)) ∈ lw_all := lw_g (lw_at lw_m6 228 rfl) rfl
theorem q1591 : (Jvm.Cond.code ({ cls := "EchoFair$State", name := "hasDeserted", desc := "(II)Z" } : Jvm.MethodName) prog_8_method_8_code (3 : Nat) (Option.some Jvm.ClassFile.FieldType.boolean)) ∈ lw_all := lw_g (lw_at lw_m6 229 rfl) rfl
theorem q1592 : (Jvm.Cond.methodLink "EchoFair$State" (134 : Nat) ({ cls := "java/util/LinkedHashSet", name := "isEmpty", desc := "()Z" } : Jvm.MethodName)) ∈ lw_all := lw_g (lw_at lw_m6 230 rfl) rfl
theorem q1604 : (Jvm.Cond.classLink "EchoFair$State" (137 : Nat) "EchoFair$Pair") ∈ lw_all := lw_g (lw_at lw_m7 2 rfl) rfl
theorem q1606 : (Jvm.Cond.methodLink "EchoFair$State" (139 : Nat) ({ cls := "EchoFair$Pair", name := "<init>", desc := "(II)V" } : Jvm.MethodName)) ∈ lw_all := lw_g (lw_at lw_m7 4 rfl) rfl
theorem q1617 : (Jvm.Cond.methodLink "EchoFair$State" (142 : Nat) ({ cls := "java/util/LinkedHashSet", name := "contains", desc := "(Ljava/lang/Object;)Z" } : Jvm.MethodName)) ∈ lw_all := lw_g (lw_at lw_m7 15 rfl) rfl
theorem q1650 : (Jvm.Cond.selects "EchoFair$State" ({ cls := "java/lang/Object", name := "hashCode", desc := "()I" } : Jvm.MethodName) ({ cls := "java/lang/Object", name := "hashCode", desc := "()I" } : Jvm.MethodName)) ∈ lw_all := lw_g (lw_at lw_m7 48 rfl) rfl
theorem q1745 : (Jvm.Cond.selects "EchoFair$State" ({ cls := "java/lang/Object", name := "equals", desc := "(Ljava/lang/Object;)Z" } : Jvm.MethodName) ({ cls := "java/lang/Object", name := "equals", desc := "(Ljava/lang/Object;)Z" } : Jvm.MethodName)) ∈ lw_all := lw_g (lw_at lw_m7 143 rfl) rfl
theorem q2009 : (Jvm.Cond.instanceMethod ({ cls := "EchoFair$State", name := "prefersValley", desc := "(II)Z" } : Jvm.MethodName)) ∈ lw_all := lw_g (lw_at lw_m8 167 rfl) rfl
theorem q2010 : (Jvm.Cond.selects "EchoFair$State" ({ cls := "EchoFair$State", name := "prefersValley", desc := "(II)Z" } : Jvm.MethodName) ({ cls := "EchoFair$State", name := "prefersValley", desc := "(II)Z" } : Jvm.MethodName)) ∈ lw_all := lw_g (lw_at lw_m8 168 rfl) rfl
theorem q2011 : (Jvm.Cond.code ({ cls := "EchoFair$State", name := "prefersValley", desc := "(II)Z" } : Jvm.MethodName) prog_8_method_12_code (5 : Nat) (Option.some Jvm.ClassFile.FieldType.boolean)) ∈ lw_all := lw_g (lw_at lw_m8 169 rfl) rfl
theorem q2021 : (Jvm.Cond.instanceMethod ({ cls := "EchoFair$State", name := "prefersEcho", desc := "(III)Z" } : Jvm.MethodName)) ∈ lw_all := lw_g (lw_at lw_m8 179 rfl) rfl
theorem q2022 : (Jvm.Cond.selects "EchoFair$State" ({ cls := "EchoFair$State", name := "prefersEcho", desc := "(III)Z" } : Jvm.MethodName) ({ cls := "EchoFair$State", name := "prefersEcho", desc := "(III)Z" } : Jvm.MethodName)) ∈ lw_all := lw_g (lw_at lw_m8 180 rfl) rfl
theorem q2023 : (Jvm.Cond.code ({ cls := "EchoFair$State", name := "prefersEcho", desc := "(III)Z" } : Jvm.MethodName) prog_8_method_11_code (6 : Nat) (Option.some Jvm.ClassFile.FieldType.boolean)) ∈ lw_all := lw_g (lw_at lw_m8 181 rfl) rfl
theorem q2210 : (Jvm.Cond.instanceMethod ({ cls := "EchoFair$State", name := "fair", desc := "()I" } : Jvm.MethodName)) ∈ lw_all := lw_g (lw_at lw_m9 128 rfl) rfl
theorem q2211 : (Jvm.Cond.selects "EchoFair$State" ({ cls := "EchoFair$State", name := "fair", desc := "()I" } : Jvm.MethodName) ({ cls := "EchoFair$State", name := "fair", desc := "()I" } : Jvm.MethodName)) ∈ lw_all := lw_g (lw_at lw_m9 129 rfl) rfl
theorem q2212 : (Jvm.Cond.code ({ cls := "EchoFair$State", name := "fair", desc := "()I" } : Jvm.MethodName) prog_8_method_15_code (5 : Nat) (Option.some Jvm.ClassFile.FieldType.int)) ∈ lw_all := lw_g (lw_at lw_m9 130 rfl) rfl
theorem q2213 : (Jvm.Cond.classLink "EchoFair$State" (179 : Nat) "EchoFair$Matching") ∈ lw_all := lw_g (lw_at lw_m9 131 rfl) rfl
theorem q2215 : (Jvm.Cond.methodLink "EchoFair$State" (181 : Nat) ({ cls := "EchoFair$Matching", name := "<init>", desc := "(LEchoFair$State;)V" } : Jvm.MethodName)) ∈ lw_all := lw_g (lw_at lw_m9 133 rfl) rfl
theorem q2252 : (Jvm.Cond.methodLink "EchoFair$State" (184 : Nat) ({ cls := "EchoFair$Matching", name := "result", desc := "()[I" } : Jvm.MethodName)) ∈ lw_all := lw_g (lw_at lw_m9 170 rfl) rfl
theorem q2338 : (Jvm.Cond.methodLink "EchoFair$State" (188 : Nat) ({ cls := "EchoFair$State", name := "sign", desc := "(II)V" } : Jvm.MethodName)) ∈ lw_all := lw_g (lw_at lw_m10 16 rfl) rfl
theorem q2339 : (Jvm.Cond.privateMethod ({ cls := "EchoFair$State", name := "sign", desc := "(II)V" } : Jvm.MethodName)) ∈ lw_tbl := lw_at lw_m10 17 rfl
theorem q2340 : (Jvm.Cond.instanceMethod ({ cls := "EchoFair$State", name := "sign", desc := "(II)V" } : Jvm.MethodName)) ∈ lw_all := lw_g (lw_at lw_m10 18 rfl) rfl
theorem q2341 : (Jvm.Cond.code ({ cls := "EchoFair$State", name := "sign", desc := "(II)V" } : Jvm.MethodName) prog_8_method_13_code (3 : Nat) (Option.none : Option Jvm.ClassFile.FieldType)) ∈ lw_all := lw_g (lw_at lw_m10 19 rfl) rfl
theorem q2342 : (Jvm.Cond.methodLink "EchoFair$State" (167 : Nat) ({ cls := "EchoFair$Valley", name := "hire", desc := "(I)V" } : Jvm.MethodName)) ∈ lw_all := lw_g (lw_at lw_m10 20 rfl) rfl
theorem q2351 : (Jvm.Cond.instanceMethod ({ cls := "EchoFair$State", name := "copy", desc := "()LEchoFair$State;" } : Jvm.MethodName)) ∈ lw_all := lw_g (lw_at lw_m10 29 rfl) rfl
theorem q2352 : (Jvm.Cond.selects "EchoFair$State" ({ cls := "EchoFair$State", name := "copy", desc := "()LEchoFair$State;" } : Jvm.MethodName) ({ cls := "EchoFair$State", name := "copy", desc := "()LEchoFair$State;" } : Jvm.MethodName)) ∈ lw_all := lw_g (lw_at lw_m10 30 rfl) rfl
theorem q2353 : (Jvm.Cond.code ({ cls := "EchoFair$State", name := "copy", desc := "()LEchoFair$State;" } : Jvm.MethodName) prog_8_method_2_code (4 : Nat) (Option.some (Jvm.ClassFile.FieldType.object "EchoFair$State"))) ∈ lw_all := lw_g (lw_at lw_m10 31 rfl) rfl
theorem q2354 : (Jvm.Cond.classLink "EchoFair$State" (15 : Nat) "EchoFair$State") ∈ lw_all := lw_g (lw_at lw_m10 32 rfl) rfl
theorem q2355 : (Jvm.Cond.methodLink "EchoFair$State" (45 : Nat) ({ cls := "EchoFair$State", name := "<init>", desc := "(I[I)V" } : Jvm.MethodName)) ∈ lw_all := lw_g (lw_at lw_m10 33 rfl) rfl
theorem q2356 : (Jvm.Cond.interfaceEntry "EchoFair$State" (48 : Nat)) ∈ lw_tbl := lw_at lw_m10 34 rfl
theorem q2357 : (Jvm.Cond.methodLink "EchoFair$State" (48 : Nat) ({ cls := "java/util/List", name := "iterator", desc := "()Ljava/util/Iterator;" } : Jvm.MethodName)) ∈ lw_all := lw_g (lw_at lw_m10 35 rfl) rfl
theorem q2358 : (Jvm.Cond.interfaceEntry "EchoFair$State" (54 : Nat)) ∈ lw_tbl := lw_at lw_m10 36 rfl
theorem q2359 : (Jvm.Cond.methodLink "EchoFair$State" (54 : Nat) ({ cls := "java/util/Iterator", name := "hasNext", desc := "()Z" } : Jvm.MethodName)) ∈ lw_all := lw_g (lw_at lw_m10 37 rfl) rfl
theorem q2360 : (Jvm.Cond.interfaceEntry "EchoFair$State" (60 : Nat)) ∈ lw_tbl := lw_at lw_m10 38 rfl
theorem q2361 : (Jvm.Cond.methodLink "EchoFair$State" (60 : Nat) ({ cls := "java/util/Iterator", name := "next", desc := "()Ljava/lang/Object;" } : Jvm.MethodName)) ∈ lw_all := lw_g (lw_at lw_m10 39 rfl) rfl
theorem q2362 : (Jvm.Cond.methodLink "EchoFair$State" (66 : Nat) ({ cls := "EchoFair$Echo", name := "copy", desc := "()LEchoFair$Echo;" } : Jvm.MethodName)) ∈ lw_all := lw_g (lw_at lw_m10 40 rfl) rfl
theorem q2368 : (Jvm.Cond.interfaceEntry "EchoFair$State" (70 : Nat)) ∈ lw_tbl := lw_at lw_m10 46 rfl
theorem q2369 : (Jvm.Cond.methodLink "EchoFair$State" (70 : Nat) ({ cls := "java/util/List", name := "add", desc := "(Ljava/lang/Object;)Z" } : Jvm.MethodName)) ∈ lw_all := lw_g (lw_at lw_m10 47 rfl) rfl
theorem q2370 : (Jvm.Cond.methodLink "EchoFair$State" (76 : Nat) ({ cls := "EchoFair$Valley", name := "copy", desc := "()LEchoFair$Valley;" } : Jvm.MethodName)) ∈ lw_all := lw_g (lw_at lw_m10 48 rfl) rfl
theorem q2385 : (Jvm.Cond.methodLink "EchoFair$State" (79 : Nat) ({ cls := "java/util/LinkedHashSet", name := "addAll", desc := "(Ljava/util/Collection;)Z" } : Jvm.MethodName)) ∈ lw_all := lw_g (lw_at lw_m10 63 rfl) rfl
theorem q2813 : (Jvm.Cond.methodLink "EchoFair$State" (83 : Nat) ({ cls := "java/util/HashMap", name := "putAll", desc := "(Ljava/util/Map;)V" } : Jvm.MethodName)) ∈ lw_all := lw_g (lw_at lw_m12 11 rfl) rfl
theorem q3317 : (Jvm.Cond.instanceMethod ({ cls := "EchoFair$State", name := "passDays", desc := "(I)I" } : Jvm.MethodName)) ∈ lw_all := lw_g (lw_at lw_m14 35 rfl) rfl
theorem q3318 : (Jvm.Cond.selects "EchoFair$State" ({ cls := "EchoFair$State", name := "passDays", desc := "(I)I" } : Jvm.MethodName) ({ cls := "EchoFair$State", name := "passDays", desc := "(I)I" } : Jvm.MethodName)) ∈ lw_all := lw_g (lw_at lw_m14 36 rfl) rfl
theorem q3319 : (Jvm.Cond.code ({ cls := "EchoFair$State", name := "passDays", desc := "(I)I" } : Jvm.MethodName) prog_8_method_23_code (3 : Nat) (Option.some Jvm.ClassFile.FieldType.int)) ∈ lw_all := lw_g (lw_at lw_m14 37 rfl) rfl
theorem q3320 : (Jvm.Cond.methodLink "EchoFair$State" (267 : Nat) ({ cls := "EchoFair$State", name := "desertions", desc := "()I" } : Jvm.MethodName)) ∈ lw_all := lw_g (lw_at lw_m14 38 rfl) rfl
theorem q3321 : (Jvm.Cond.instanceMethod ({ cls := "EchoFair$State", name := "desertions", desc := "()I" } : Jvm.MethodName)) ∈ lw_all := lw_g (lw_at lw_m14 39 rfl) rfl
theorem q3322 : (Jvm.Cond.selects "EchoFair$State" ({ cls := "EchoFair$State", name := "desertions", desc := "()I" } : Jvm.MethodName) ({ cls := "EchoFair$State", name := "desertions", desc := "()I" } : Jvm.MethodName)) ∈ lw_all := lw_g (lw_at lw_m14 40 rfl) rfl
theorem q3323 : (Jvm.Cond.code ({ cls := "EchoFair$State", name := "desertions", desc := "()I" } : Jvm.MethodName) prog_8_method_22_code (4 : Nat) (Option.some Jvm.ClassFile.FieldType.int)) ∈ lw_all := lw_g (lw_at lw_m14 41 rfl) rfl
theorem q3324 : (Jvm.Cond.methodLink "EchoFair$State" (269 : Nat) ({ cls := "EchoFair$State", name := "after", desc := "(I)LEchoFair$State;" } : Jvm.MethodName)) ∈ lw_all := lw_g (lw_at lw_m14 42 rfl) rfl
theorem q3325 : (Jvm.Cond.instanceMethod ({ cls := "EchoFair$State", name := "after", desc := "(I)LEchoFair$State;" } : Jvm.MethodName)) ∈ lw_all := lw_g (lw_at lw_m14 43 rfl) rfl
theorem q3326 : (Jvm.Cond.selects "EchoFair$State" ({ cls := "EchoFair$State", name := "after", desc := "(I)LEchoFair$State;" } : Jvm.MethodName) ({ cls := "EchoFair$State", name := "after", desc := "(I)LEchoFair$State;" } : Jvm.MethodName)) ∈ lw_all := lw_g (lw_at lw_m14 44 rfl) rfl
theorem q3327 : (Jvm.Cond.code ({ cls := "EchoFair$State", name := "after", desc := "(I)LEchoFair$State;" } : Jvm.MethodName) prog_8_method_21_code (3 : Nat) (Option.some (Jvm.ClassFile.FieldType.object "EchoFair$State"))) ∈ lw_all := lw_g (lw_at lw_m14 45 rfl) rfl
theorem q3328 : (Jvm.Cond.methodLink "EchoFair$State" (264 : Nat) ({ cls := "EchoFair$State", name := "passDay", desc := "()V" } : Jvm.MethodName)) ∈ lw_all := lw_g (lw_at lw_m14 46 rfl) rfl
theorem q3329 : (Jvm.Cond.instanceMethod ({ cls := "EchoFair$State", name := "passDay", desc := "()V" } : Jvm.MethodName)) ∈ lw_all := lw_g (lw_at lw_m14 47 rfl) rfl
theorem q3330 : (Jvm.Cond.selects "EchoFair$State" ({ cls := "EchoFair$State", name := "passDay", desc := "()V" } : Jvm.MethodName) ({ cls := "EchoFair$State", name := "passDay", desc := "()V" } : Jvm.MethodName)) ∈ lw_all := lw_g (lw_at lw_m14 48 rfl) rfl
theorem q3331 : (Jvm.Cond.code ({ cls := "EchoFair$State", name := "passDay", desc := "()V" } : Jvm.MethodName) prog_8_method_20_code (2 : Nat) (Option.none : Option Jvm.ClassFile.FieldType)) ∈ lw_all := lw_g (lw_at lw_m14 49 rfl) rfl
theorem q3332 : (Jvm.Cond.methodLink "EchoFair$State" (255 : Nat) ({ cls := "EchoFair$State", name := "startSeason", desc := "()V" } : Jvm.MethodName)) ∈ lw_all := lw_g (lw_at lw_m14 50 rfl) rfl
theorem q3333 : (Jvm.Cond.privateMethod ({ cls := "EchoFair$State", name := "startSeason", desc := "()V" } : Jvm.MethodName)) ∈ lw_tbl := lw_at lw_m14 51 rfl
theorem q3334 : (Jvm.Cond.instanceMethod ({ cls := "EchoFair$State", name := "startSeason", desc := "()V" } : Jvm.MethodName)) ∈ lw_all := lw_g (lw_at lw_m14 52 rfl) rfl
theorem q3335 : (Jvm.Cond.code ({ cls := "EchoFair$State", name := "startSeason", desc := "()V" } : Jvm.MethodName) prog_8_method_16_code (3 : Nat) (Option.none : Option Jvm.ClassFile.FieldType)) ∈ lw_all := lw_g (lw_at lw_m14 53 rfl) rfl
theorem q3336 : (Jvm.Cond.methodLink "EchoFair$State" (191 : Nat) ({ cls := "EchoFair$State", name := "end", desc := "(I)I" } : Jvm.MethodName)) ∈ lw_all := lw_g (lw_at lw_m14 54 rfl) rfl
theorem q3337 : (Jvm.Cond.instanceMethod ({ cls := "EchoFair$State", name := "end", desc := "(I)I" } : Jvm.MethodName)) ∈ lw_all := lw_g (lw_at lw_m14 55 rfl) rfl
theorem q3338 : (Jvm.Cond.selects "EchoFair$State" ({ cls := "EchoFair$State", name := "end", desc := "(I)I" } : Jvm.MethodName) ({ cls := "EchoFair$State", name := "end", desc := "(I)I" } : Jvm.MethodName)) ∈ lw_all := lw_g (lw_at lw_m14 56 rfl) rfl
theorem q3339 : (Jvm.Cond.code ({ cls := "EchoFair$State", name := "end", desc := "(I)I" } : Jvm.MethodName) prog_8_method_14_code (3 : Nat) (Option.some Jvm.ClassFile.FieldType.int)) ∈ lw_all := lw_g (lw_at lw_m14 57 rfl) rfl
theorem q3340 : (Jvm.Cond.methodLink "EchoFair$State" (173 : Nat) ({ cls := "EchoFair$Valley", name := "release", desc := "(I)V" } : Jvm.MethodName)) ∈ lw_all := lw_g (lw_at lw_m14 58 rfl) rfl
theorem q3344 : (Jvm.Cond.methodLink "EchoFair$State" (195 : Nat) ({ cls := "java/util/LinkedHashSet", name := "clear", desc := "()V" } : Jvm.MethodName)) ∈ lw_all := lw_g (lw_at lw_m14 62 rfl) rfl
theorem q3359 : (Jvm.Cond.methodLink "EchoFair$State" (198 : Nat) ({ cls := "EchoFair$State", name := "fair", desc := "()I" } : Jvm.MethodName)) ∈ lw_all := lw_g (lw_at lw_m14 77 rfl) rfl
theorem q3360 : (Jvm.Cond.methodLink "EchoFair$State" (258 : Nat) ({ cls := "EchoFair$State", name := "shout", desc := "(I)V" } : Jvm.MethodName)) ∈ lw_all := lw_g (lw_at lw_m14 78 rfl) rfl
theorem q3361 : (Jvm.Cond.privateMethod ({ cls := "EchoFair$State", name := "shout", desc := "(I)V" } : Jvm.MethodName)) ∈ lw_tbl := lw_at lw_m14 79 rfl
theorem q3362 : (Jvm.Cond.instanceMethod ({ cls := "EchoFair$State", name := "shout", desc := "(I)V" } : Jvm.MethodName)) ∈ lw_all := lw_g (lw_at lw_m14 80 rfl) rfl
theorem q3363 : (Jvm.Cond.code ({ cls := "EchoFair$State", name := "shout", desc := "(I)V" } : Jvm.MethodName) prog_8_method_18_code (8 : Nat) (Option.none : Option Jvm.ClassFile.FieldType)) ∈ lw_all := lw_g (lw_at lw_m14 81 rfl) rfl
theorem q3364 : (Jvm.Cond.methodLink "EchoFair$State" (219 : Nat) ({ cls := "java/util/HashMap", name := "get", desc := "(Ljava/lang/Object;)Ljava/lang/Object;" } : Jvm.MethodName)) ∈ lw_all := lw_g (lw_at lw_m14 82 rfl) rfl
theorem q3377 : (Jvm.Cond.classLink "EchoFair$State" (222 : Nat) "java/lang/Integer") ∈ lw_all := lw_g (lw_at lw_m14 95 rfl) rfl
theorem q3378 : (Jvm.Cond.methodLink "EchoFair$State" (224 : Nat) ({ cls := "java/lang/Integer", name := "intValue", desc := "()I" } : Jvm.MethodName)) ∈ lw_all := lw_g (lw_at lw_m14 96 rfl) rfl
theorem q3379 : (Jvm.Cond.methodLink "EchoFair$State" (227 : Nat) ({ cls := "java/lang/Integer", name := "valueOf", desc := "(I)Ljava/lang/Integer;" } : Jvm.MethodName)) ∈ lw_all := lw_g (lw_at lw_m14 97 rfl) rfl
theorem q3380 : (Jvm.Cond.methodLink "EchoFair$State" (231 : Nat) ({ cls := "java/util/HashMap", name := "put", desc := "(Ljava/lang/Object;Ljava/lang/Object;)Ljava/lang/Object;" } : Jvm.MethodName)) ∈ lw_all := lw_g (lw_at lw_m14 98 rfl) rfl
theorem q3381 : (Jvm.Cond.methodLink "EchoFair$State" (241 : Nat) ({ cls := "EchoFair$State", name := "pay", desc := "(LEchoFair$Valley;LEchoFair$Echo;)V" } : Jvm.MethodName)) ∈ lw_all := lw_g (lw_at lw_m14 99 rfl) rfl
theorem q3382 : (Jvm.Cond.privateMethod ({ cls := "EchoFair$State", name := "pay", desc := "(LEchoFair$Valley;LEchoFair$Echo;)V" } : Jvm.MethodName)) ∈ lw_tbl := lw_at lw_m14 100 rfl
theorem q3383 : (Jvm.Cond.instanceMethod ({ cls := "EchoFair$State", name := "pay", desc := "(LEchoFair$Valley;LEchoFair$Echo;)V" } : Jvm.MethodName)) ∈ lw_all := lw_g (lw_at lw_m14 101 rfl) rfl
theorem q3384 : (Jvm.Cond.code ({ cls := "EchoFair$State", name := "pay", desc := "(LEchoFair$Valley;LEchoFair$Echo;)V" } : Jvm.MethodName) prog_8_method_17_code (4 : Nat) (Option.none : Option Jvm.ClassFile.FieldType)) ∈ lw_all := lw_g (lw_at lw_m14 102 rfl) rfl
theorem q3385 : (Jvm.Cond.methodLink "EchoFair$State" (261 : Nat) ({ cls := "EchoFair$State", name := "desert", desc := "(I)V" } : Jvm.MethodName)) ∈ lw_all := lw_g (lw_at lw_m14 103 rfl) rfl
theorem q3386 : (Jvm.Cond.privateMethod ({ cls := "EchoFair$State", name := "desert", desc := "(I)V" } : Jvm.MethodName)) ∈ lw_tbl := lw_at lw_m14 104 rfl
theorem q3387 : (Jvm.Cond.instanceMethod ({ cls := "EchoFair$State", name := "desert", desc := "(I)V" } : Jvm.MethodName)) ∈ lw_all := lw_g (lw_at lw_m14 105 rfl) rfl
theorem q3388 : (Jvm.Cond.code ({ cls := "EchoFair$State", name := "desert", desc := "(I)V" } : Jvm.MethodName) prog_8_method_19_code (5 : Nat) (Option.none : Option Jvm.ClassFile.FieldType)) ∈ lw_all := lw_g (lw_at lw_m14 106 rfl) rfl
theorem q3389 : (Jvm.Cond.methodLink "EchoFair$State" (245 : Nat) ({ cls := "EchoFair$State", name := "fog", desc := "(I)I" } : Jvm.MethodName)) ∈ lw_all := lw_g (lw_at lw_m14 107 rfl) rfl
theorem q3390 : (Jvm.Cond.instanceMethod ({ cls := "EchoFair$State", name := "fog", desc := "(I)I" } : Jvm.MethodName)) ∈ lw_all := lw_g (lw_at lw_m14 108 rfl) rfl
theorem q3391 : (Jvm.Cond.selects "EchoFair$State" ({ cls := "EchoFair$State", name := "fog", desc := "(I)I" } : Jvm.MethodName) ({ cls := "EchoFair$State", name := "fog", desc := "(I)I" } : Jvm.MethodName)) ∈ lw_all := lw_g (lw_at lw_m14 109 rfl) rfl
theorem q3392 : (Jvm.Cond.code ({ cls := "EchoFair$State", name := "fog", desc := "(I)I" } : Jvm.MethodName) prog_8_method_7_code (2 : Nat) (Option.some Jvm.ClassFile.FieldType.int)) ∈ lw_all := lw_g (lw_at lw_m14 110 rfl) rfl
theorem q3393 : (Jvm.Cond.methodLink "EchoFair$State" (251 : Nat) ({ cls := "java/util/LinkedHashSet", name := "add", desc := "(Ljava/lang/Object;)Z" } : Jvm.MethodName)) ∈ lw_all := lw_g (lw_at lw_m14 111 rfl) rfl
theorem q3407 : (Jvm.Cond.instanceMethod ({ cls := "EchoFair$State", name := "test", desc := "(II)I" } : Jvm.MethodName)) ∈ lw_all := lw_g (lw_at lw_m14 125 rfl) rfl
theorem q3408 : (Jvm.Cond.selects "EchoFair$State" ({ cls := "EchoFair$State", name := "test", desc := "(II)I" } : Jvm.MethodName) ({ cls := "EchoFair$State", name := "test", desc := "(II)I" } : Jvm.MethodName)) ∈ lw_all := lw_g (lw_at lw_m14 126 rfl) rfl
theorem q3409 : (Jvm.Cond.code ({ cls := "EchoFair$State", name := "test", desc := "(II)I" } : Jvm.MethodName) prog_8_method_24_code (3 : Nat) (Option.some Jvm.ClassFile.FieldType.int)) ∈ lw_all := lw_g (lw_at lw_m14 127 rfl) rfl
theorem q3410 : (Jvm.Cond.methodLinkNest "EchoFair$State" (273 : Nat) ({ cls := "EchoFair", name := "checkState", desc := "(Z)V" } : Jvm.MethodName) "EchoFair") ∈ lw_tbl := lw_at lw_m14 128 rfl
theorem q3418 : (Jvm.Cond.instanceMethod ({ cls := "EchoFair$State", name := "dismiss", desc := "(I)I" } : Jvm.MethodName)) ∈ lw_all := lw_g (lw_at lw_m14 136 rfl) rfl
theorem q3419 : (Jvm.Cond.selects "EchoFair$State" ({ cls := "EchoFair$State", name := "dismiss", desc := "(I)I" } : Jvm.MethodName) ({ cls := "EchoFair$State", name := "dismiss", desc := "(I)I" } : Jvm.MethodName)) ∈ lw_all := lw_g (lw_at lw_m14 137 rfl) rfl
theorem q3420 : (Jvm.Cond.code ({ cls := "EchoFair$State", name := "dismiss", desc := "(I)I" } : Jvm.MethodName) prog_8_method_25_code (2 : Nat) (Option.some Jvm.ClassFile.FieldType.int)) ∈ lw_all := lw_g (lw_at lw_m14 138 rfl) rfl
theorem q3428 : (Jvm.Cond.instanceMethod ({ cls := "EchoFair$State", name := "setWage", desc := "(II)I" } : Jvm.MethodName)) ∈ lw_all := lw_g (lw_at lw_m14 146 rfl) rfl
theorem q3429 : (Jvm.Cond.selects "EchoFair$State" ({ cls := "EchoFair$State", name := "setWage", desc := "(II)I" } : Jvm.MethodName) ({ cls := "EchoFair$State", name := "setWage", desc := "(II)I" } : Jvm.MethodName)) ∈ lw_all := lw_g (lw_at lw_m14 147 rfl) rfl
theorem q3430 : (Jvm.Cond.code ({ cls := "EchoFair$State", name := "setWage", desc := "(II)I" } : Jvm.MethodName) prog_8_method_26_code (4 : Nat) (Option.some Jvm.ClassFile.FieldType.int)) ∈ lw_all := lw_g (lw_at lw_m14 148 rfl) rfl
theorem q3438 : (Jvm.Cond.instanceMethod ({ cls := "EchoFair$State", name := "fund", desc := "(II)I" } : Jvm.MethodName)) ∈ lw_all := lw_g (lw_at lw_m14 156 rfl) rfl
theorem q3439 : (Jvm.Cond.selects "EchoFair$State" ({ cls := "EchoFair$State", name := "fund", desc := "(II)I" } : Jvm.MethodName) ({ cls := "EchoFair$State", name := "fund", desc := "(II)I" } : Jvm.MethodName)) ∈ lw_all := lw_g (lw_at lw_m14 157 rfl) rfl
theorem q3440 : (Jvm.Cond.code ({ cls := "EchoFair$State", name := "fund", desc := "(II)I" } : Jvm.MethodName) prog_8_method_27_code (3 : Nat) (Option.some Jvm.ClassFile.FieldType.int)) ∈ lw_all := lw_g (lw_at lw_m14 158 rfl) rfl
theorem q3448 : (Jvm.Cond.instanceMethod ({ cls := "EchoFair$State", name := "train", desc := "(I)I" } : Jvm.MethodName)) ∈ lw_all := lw_g (lw_at lw_m14 166 rfl) rfl
theorem q3449 : (Jvm.Cond.selects "EchoFair$State" ({ cls := "EchoFair$State", name := "train", desc := "(I)I" } : Jvm.MethodName) ({ cls := "EchoFair$State", name := "train", desc := "(I)I" } : Jvm.MethodName)) ∈ lw_all := lw_g (lw_at lw_m14 167 rfl) rfl
theorem q3450 : (Jvm.Cond.code ({ cls := "EchoFair$State", name := "train", desc := "(I)I" } : Jvm.MethodName) prog_8_method_28_code (4 : Nat) (Option.some Jvm.ClassFile.FieldType.int)) ∈ lw_all := lw_g (lw_at lw_m14 168 rfl) rfl
theorem q3451 : (Jvm.Cond.methodLink "EchoFair$State" (277 : Nat) ({ cls := "EchoFair$Echo", name := "trainingCost", desc := "()I" } : Jvm.MethodName)) ∈ lw_all := lw_g (lw_at lw_m14 169 rfl) rfl
theorem q4611 : (Jvm.Cond.castable "EchoFair$State" "java/lang/Object") ∈ lw_tbl := lw_at lw_m19 129 rfl
theorem q197 : (Jvm.Cond.initialized "EchoFair$Echo") ∈ lw_all := lw_g (lw_at lw_m1 35 rfl) rfl
theorem q964 : (Jvm.Cond.selects "EchoFair$Echo" ({ cls := "java/lang/Object", name := "toString", desc := "()Ljava/lang/String;" } : Jvm.MethodName) ({ cls := "java/lang/Object", name := "toString", desc := "()Ljava/lang/String;" } : Jvm.MethodName)) ∈ lw_all := lw_g (lw_at lw_m4 82 rfl) rfl
theorem q974 : (Jvm.Cond.selects "EchoFair$Echo" ({ cls := "java/lang/Object", name := "getClass", desc := "()Ljava/lang/Class;" } : Jvm.MethodName) ({ cls := "java/lang/Object", name := "getClass", desc := "()Ljava/lang/Class;" } : Jvm.MethodName)) ∈ lw_all := lw_g (lw_at lw_m4 92 rfl) rfl
theorem q1256 : (Jvm.Cond.instantiable "EchoFair$Echo" (9 : Nat)) ∈ lw_all := lw_g (lw_at lw_m5 134 rfl) rfl
theorem q1259 : (Jvm.Cond.instanceMethod ({ cls := "EchoFair$Echo", name := "<init>", desc := "(Ljava/lang/String;IIII)V" } : Jvm.MethodName)) ∈ lw_all := lw_g (lw_at lw_m5 137 rfl) rfl
theorem q1260 : (Jvm.Cond.code ({ cls := "EchoFair$Echo", name := "<init>", desc := "(Ljava/lang/String;IIII)V" } : Jvm.MethodName) prog_2_method_1_code (6 : Nat) (Option.none : Option Jvm.ClassFile.FieldType)) ∈ lw_all := lw_g (lw_at lw_m5 138 rfl) rfl
theorem q1261 : (Jvm.Cond.methodLink "EchoFair$Echo" (3 : Nat) ({ cls := "java/lang/Object", name := "<init>", desc := "()V" } : Jvm.MethodName)) ∈ lw_all := lw_g (lw_at lw_m5 139 rfl) rfl
theorem q1262 : (Jvm.Cond.fieldLink "EchoFair$Echo" (15 : Nat) "EchoFair$Echo" "name" "Ljava/lang/String;") ∈ lw_all := lw_g (lw_at lw_m5 140 rfl) rfl
theorem q1265 : (Jvm.Cond.fieldLink "EchoFair$Echo" (19 : Nat) "EchoFair$Echo" "delay" "I") ∈ lw_all := lw_g (lw_at lw_m5 143 rfl) rfl
theorem q1268 : (Jvm.Cond.fieldLink "EchoFair$Echo" (25 : Nat) "EchoFair$Echo" "reserve" "I") ∈ lw_all := lw_g (lw_at lw_m5 146 rfl) rfl
theorem q1272 : (Jvm.Cond.fieldLink "EchoFair$Echo" (28 : Nat) "EchoFair$Echo" "resistance" "I") ∈ lw_all := lw_g (lw_at lw_m5 150 rfl) rfl
theorem q1275 : (Jvm.Cond.fieldLink "EchoFair$Echo" (22 : Nat) "EchoFair$Echo" "repeats" "I") ∈ lw_all := lw_g (lw_at lw_m5 153 rfl) rfl
theorem q1279 : (Jvm.Cond.fieldLink "EchoFair$Echo" (34 : Nat) "EchoFair$Echo" "savings" "I") ∈ lw_all := lw_g (lw_at lw_m5 157 rfl) rfl
theorem q1282 : (Jvm.Cond.fieldLink "EchoFair$Echo" (37 : Nat) "EchoFair$Echo" "unpaid" "I") ∈ lw_all := lw_g (lw_at lw_m5 160 rfl) rfl
theorem q1285 : (Jvm.Cond.fieldLink "EchoFair$Echo" (9 : Nat) "EchoFair$Echo" "employer" "I") ∈ lw_all := lw_g (lw_at lw_m5 163 rfl) rfl
theorem q1289 : (Jvm.Cond.fieldLink "EchoFair$Echo" (40 : Nat) "EchoFair$Echo" "desertions" "I") ∈ lw_all := lw_g (lw_at lw_m5 167 rfl) rfl
theorem q1292 : (Jvm.Cond.laysFinal "EchoFair$Echo" "EchoFair$Echo" "name" "Ljava/lang/String;") ∈ lw_all := lw_g (lw_at lw_m5 170 rfl) rfl
theorem q1293 : (Jvm.Cond.soleField "EchoFair$Echo" "name") ∈ lw_all := lw_g (lw_at lw_m5 171 rfl) rfl
theorem q1294 : (Jvm.Cond.laysFinal "EchoFair$Echo" "EchoFair$Echo" "delay" "I") ∈ lw_all := lw_g (lw_at lw_m5 172 rfl) rfl
theorem q1295 : (Jvm.Cond.soleField "EchoFair$Echo" "delay") ∈ lw_all := lw_g (lw_at lw_m5 173 rfl) rfl
theorem q1296 : (Jvm.Cond.laysFinal "EchoFair$Echo" "EchoFair$Echo" "reserve" "I") ∈ lw_all := lw_g (lw_at lw_m5 174 rfl) rfl
theorem q1297 : (Jvm.Cond.soleField "EchoFair$Echo" "reserve") ∈ lw_all := lw_g (lw_at lw_m5 175 rfl) rfl
theorem q1298 : (Jvm.Cond.laysFinal "EchoFair$Echo" "EchoFair$Echo" "resistance" "I") ∈ lw_all := lw_g (lw_at lw_m5 176 rfl) rfl
theorem q1299 : (Jvm.Cond.soleField "EchoFair$Echo" "resistance") ∈ lw_all := lw_g (lw_at lw_m5 177 rfl) rfl
theorem q1300 : (Jvm.Cond.lays "EchoFair$Echo" "EchoFair$Echo" "repeats" "I") ∈ lw_all := lw_g (lw_at lw_m5 178 rfl) rfl
theorem q1301 : (Jvm.Cond.soleField "EchoFair$Echo" "repeats") ∈ lw_all := lw_g (lw_at lw_m5 179 rfl) rfl
theorem q1302 : (Jvm.Cond.lays "EchoFair$Echo" "EchoFair$Echo" "savings" "I") ∈ lw_all := lw_g (lw_at lw_m5 180 rfl) rfl
theorem q1303 : (Jvm.Cond.soleField "EchoFair$Echo" "savings") ∈ lw_all := lw_g (lw_at lw_m5 181 rfl) rfl
theorem q1304 : (Jvm.Cond.lays "EchoFair$Echo" "EchoFair$Echo" "unpaid" "I") ∈ lw_all := lw_g (lw_at lw_m5 182 rfl) rfl
theorem q1305 : (Jvm.Cond.soleField "EchoFair$Echo" "unpaid") ∈ lw_all := lw_g (lw_at lw_m5 183 rfl) rfl
theorem q1306 : (Jvm.Cond.lays "EchoFair$Echo" "EchoFair$Echo" "employer" "I") ∈ lw_all := lw_g (lw_at lw_m5 184 rfl) rfl
theorem q1307 : (Jvm.Cond.soleField "EchoFair$Echo" "employer") ∈ lw_all := lw_g (lw_at lw_m5 185 rfl) rfl
theorem q1308 : (Jvm.Cond.lays "EchoFair$Echo" "EchoFair$Echo" "desertions" "I") ∈ lw_all := lw_g (lw_at lw_m5 186 rfl) rfl
theorem q1309 : (Jvm.Cond.soleField "EchoFair$Echo" "desertions") ∈ lw_all := lw_g (lw_at lw_m5 187 rfl) rfl
theorem q1310 : (Jvm.Cond.superclass "EchoFair$Echo" "java/lang/Object") ∈ lw_all := lw_g (lw_at lw_m5 188 rfl) rfl
theorem q1643 : (Jvm.Cond.selects "EchoFair$Echo" ({ cls := "java/lang/Object", name := "hashCode", desc := "()I" } : Jvm.MethodName) ({ cls := "java/lang/Object", name := "hashCode", desc := "()I" } : Jvm.MethodName)) ∈ lw_all := lw_g (lw_at lw_m7 41 rfl) rfl
theorem q1737 : (Jvm.Cond.selects "EchoFair$Echo" ({ cls := "java/lang/Object", name := "equals", desc := "(Ljava/lang/Object;)Z" } : Jvm.MethodName) ({ cls := "java/lang/Object", name := "equals", desc := "(Ljava/lang/Object;)Z" } : Jvm.MethodName)) ∈ lw_all := lw_g (lw_at lw_m7 135 rfl) rfl
theorem q2363 : (Jvm.Cond.instanceMethod ({ cls := "EchoFair$Echo", name := "copy", desc := "()LEchoFair$Echo;" } : Jvm.MethodName)) ∈ lw_all := lw_g (lw_at lw_m10 41 rfl) rfl
theorem q2364 : (Jvm.Cond.selects "EchoFair$Echo" ({ cls := "EchoFair$Echo", name := "copy", desc := "()LEchoFair$Echo;" } : Jvm.MethodName) ({ cls := "EchoFair$Echo", name := "copy", desc := "()LEchoFair$Echo;" } : Jvm.MethodName)) ∈ lw_all := lw_g (lw_at lw_m10 42 rfl) rfl
theorem q2365 : (Jvm.Cond.code ({ cls := "EchoFair$Echo", name := "copy", desc := "()LEchoFair$Echo;" } : Jvm.MethodName) prog_2_method_2_code (2 : Nat) (Option.some (Jvm.ClassFile.FieldType.object "EchoFair$Echo"))) ∈ lw_all := lw_g (lw_at lw_m10 43 rfl) rfl
theorem q2366 : (Jvm.Cond.classLink "EchoFair$Echo" (10 : Nat) "EchoFair$Echo") ∈ lw_all := lw_g (lw_at lw_m10 44 rfl) rfl
theorem q2367 : (Jvm.Cond.methodLink "EchoFair$Echo" (31 : Nat) ({ cls := "EchoFair$Echo", name := "<init>", desc := "(Ljava/lang/String;IIII)V" } : Jvm.MethodName)) ∈ lw_all := lw_g (lw_at lw_m10 45 rfl) rfl
theorem q3452 : (Jvm.Cond.instanceMethod ({ cls := "EchoFair$Echo", name := "trainingCost", desc := "()I" } : Jvm.MethodName)) ∈ lw_all := lw_g (lw_at lw_m14 170 rfl) rfl
theorem q3453 : (Jvm.Cond.selects "EchoFair$Echo" ({ cls := "EchoFair$Echo", name := "trainingCost", desc := "()I" } : Jvm.MethodName) ({ cls := "EchoFair$Echo", name := "trainingCost", desc := "()I" } : Jvm.MethodName)) ∈ lw_all := lw_g (lw_at lw_m14 171 rfl) rfl
theorem q3454 : (Jvm.Cond.code ({ cls := "EchoFair$Echo", name := "trainingCost", desc := "()I" } : Jvm.MethodName) prog_2_method_3_code (1 : Nat) (Option.some Jvm.ClassFile.FieldType.int)) ∈ lw_all := lw_g (lw_at lw_m14 172 rfl) rfl
theorem q4623 : (Jvm.Cond.castable "EchoFair$Echo" "java/lang/Object") ∈ lw_tbl := lw_at lw_m19 141 rfl
theorem q198 : (Jvm.Cond.initialized "EchoFair$Valley") ∈ lw_all := lw_g (lw_at lw_m1 36 rfl) rfl
theorem q981 : (Jvm.Cond.selects "EchoFair$Valley" ({ cls := "java/lang/Object", name := "getClass", desc := "()Ljava/lang/Class;" } : Jvm.MethodName) ({ cls := "java/lang/Object", name := "getClass", desc := "()Ljava/lang/Class;" } : Jvm.MethodName)) ∈ lw_all := lw_g (lw_at lw_m4 99 rfl) rfl
theorem q1046 : (Jvm.Cond.selects "EchoFair$Valley" ({ cls := "java/lang/Object", name := "toString", desc := "()Ljava/lang/String;" } : Jvm.MethodName) ({ cls := "java/lang/Object", name := "toString", desc := "()Ljava/lang/String;" } : Jvm.MethodName)) ∈ lw_all := lw_g (lw_at lw_m4 164 rfl) rfl
theorem q1266 : (Jvm.Cond.fieldLinkNest "EchoFair$Valley" (60 : Nat) "EchoFair$Echo" "delay" "I" "EchoFair") ∈ lw_tbl := lw_at lw_m5 144 rfl
theorem q1276 : (Jvm.Cond.fieldLinkNest "EchoFair$Valley" (55 : Nat) "EchoFair$Echo" "repeats" "I" "EchoFair") ∈ lw_tbl := lw_at lw_m5 154 rfl
theorem q1350 : (Jvm.Cond.instantiable "EchoFair$Valley" (10 : Nat)) ∈ lw_all := lw_g (lw_at lw_m5 228 rfl) rfl
theorem q1353 : (Jvm.Cond.instanceMethod ({ cls := "EchoFair$Valley", name := "<init>", desc := "(Ljava/lang/String;IIII)V" } : Jvm.MethodName)) ∈ lw_all := lw_g (lw_at lw_m5 231 rfl) rfl
theorem q1354 : (Jvm.Cond.code ({ cls := "EchoFair$Valley", name := "<init>", desc := "(Ljava/lang/String;IIII)V" } : Jvm.MethodName) prog_10_method_1_code (6 : Nat) (Option.none : Option Jvm.ClassFile.FieldType)) ∈ lw_all := lw_g (lw_at lw_m5 232 rfl) rfl
theorem q1355 : (Jvm.Cond.methodLink "EchoFair$Valley" (3 : Nat) ({ cls := "EchoFair$Valley", name := "<init>", desc := "(Ljava/lang/String;II[Z[I)V" } : Jvm.MethodName)) ∈ lw_all := lw_g (lw_at lw_m5 233 rfl) rfl
theorem q1356 : (Jvm.Cond.instanceMethod ({ cls := "EchoFair$Valley", name := "<init>", desc := "(Ljava/lang/String;II[Z[I)V" } : Jvm.MethodName)) ∈ lw_all := lw_g (lw_at lw_m5 234 rfl) rfl
theorem q1357 : (Jvm.Cond.code ({ cls := "EchoFair$Valley", name := "<init>", desc := "(Ljava/lang/String;II[Z[I)V" } : Jvm.MethodName) prog_10_method_2_code (6 : Nat) (Option.none : Option Jvm.ClassFile.FieldType)) ∈ lw_all := lw_g (lw_at lw_m5 235 rfl) rfl
theorem q1358 : (Jvm.Cond.methodLink "EchoFair$Valley" (16 : Nat) ({ cls := "java/lang/Object", name := "<init>", desc := "()V" } : Jvm.MethodName)) ∈ lw_all := lw_g (lw_at lw_m5 236 rfl) rfl
theorem q1359 : (Jvm.Cond.fieldLink "EchoFair$Valley" (21 : Nat) "EchoFair$Valley" "name" "Ljava/lang/String;") ∈ lw_all := lw_g (lw_at lw_m5 237 rfl) rfl
theorem q1362 : (Jvm.Cond.fieldLink "EchoFair$Valley" (25 : Nat) "EchoFair$Valley" "width" "I") ∈ lw_all := lw_g (lw_at lw_m6 0 rfl) rfl
theorem q1365 : (Jvm.Cond.fieldLink "EchoFair$Valley" (28 : Nat) "EchoFair$Valley" "posts" "I") ∈ lw_all := lw_g (lw_at lw_m6 3 rfl) rfl
theorem q1367 : (Jvm.Cond.fieldLink "EchoFair$Valley" (31 : Nat) "EchoFair$Valley" "tested" "[Z") ∈ lw_all := lw_g (lw_at lw_m6 5 rfl) rfl
theorem q1371 : (Jvm.Cond.fieldLink "EchoFair$Valley" (35 : Nat) "EchoFair$Valley" "staff" "[I") ∈ lw_all := lw_g (lw_at lw_m6 9 rfl) rfl
theorem q1374 : (Jvm.Cond.fieldLink "EchoFair$Valley" (9 : Nat) "EchoFair$Valley" "wage" "I") ∈ lw_all := lw_g (lw_at lw_m6 12 rfl) rfl
theorem q1378 : (Jvm.Cond.fieldLink "EchoFair$Valley" (13 : Nat) "EchoFair$Valley" "purse" "I") ∈ lw_all := lw_g (lw_at lw_m6 16 rfl) rfl
theorem q1382 : (Jvm.Cond.fieldLink "EchoFair$Valley" (46 : Nat) "EchoFair$Valley" "staffCount" "I") ∈ lw_all := lw_g (lw_at lw_m6 20 rfl) rfl
theorem q1385 : (Jvm.Cond.fieldLink "EchoFair$Valley" (49 : Nat) "EchoFair$Valley" "replies" "I") ∈ lw_all := lw_g (lw_at lw_m6 23 rfl) rfl
theorem q1388 : (Jvm.Cond.fieldLink "EchoFair$Valley" (52 : Nat) "EchoFair$Valley" "paid" "I") ∈ lw_all := lw_g (lw_at lw_m6 26 rfl) rfl
theorem q1391 : (Jvm.Cond.laysFinal "EchoFair$Valley" "EchoFair$Valley" "name" "Ljava/lang/String;") ∈ lw_all := lw_g (lw_at lw_m6 29 rfl) rfl
theorem q1392 : (Jvm.Cond.soleField "EchoFair$Valley" "name") ∈ lw_all := lw_g (lw_at lw_m6 30 rfl) rfl
theorem q1393 : (Jvm.Cond.laysFinal "EchoFair$Valley" "EchoFair$Valley" "width" "I") ∈ lw_all := lw_g (lw_at lw_m6 31 rfl) rfl
theorem q1394 : (Jvm.Cond.soleField "EchoFair$Valley" "width") ∈ lw_all := lw_g (lw_at lw_m6 32 rfl) rfl
theorem q1395 : (Jvm.Cond.laysFinal "EchoFair$Valley" "EchoFair$Valley" "posts" "I") ∈ lw_all := lw_g (lw_at lw_m6 33 rfl) rfl
theorem q1396 : (Jvm.Cond.soleField "EchoFair$Valley" "posts") ∈ lw_all := lw_g (lw_at lw_m6 34 rfl) rfl
theorem q1397 : (Jvm.Cond.laysFinal "EchoFair$Valley" "EchoFair$Valley" "tested" "[Z") ∈ lw_all := lw_g (lw_at lw_m6 35 rfl) rfl
theorem q1398 : (Jvm.Cond.soleField "EchoFair$Valley" "tested") ∈ lw_all := lw_g (lw_at lw_m6 36 rfl) rfl
theorem q1399 : (Jvm.Cond.laysFinal "EchoFair$Valley" "EchoFair$Valley" "staff" "[I") ∈ lw_all := lw_g (lw_at lw_m6 37 rfl) rfl
theorem q1400 : (Jvm.Cond.soleField "EchoFair$Valley" "staff") ∈ lw_all := lw_g (lw_at lw_m6 38 rfl) rfl
theorem q1401 : (Jvm.Cond.lays "EchoFair$Valley" "EchoFair$Valley" "wage" "I") ∈ lw_all := lw_g (lw_at lw_m6 39 rfl) rfl
theorem q1402 : (Jvm.Cond.soleField "EchoFair$Valley" "wage") ∈ lw_all := lw_g (lw_at lw_m6 40 rfl) rfl
theorem q1403 : (Jvm.Cond.lays "EchoFair$Valley" "EchoFair$Valley" "purse" "I") ∈ lw_all := lw_g (lw_at lw_m6 41 rfl) rfl
theorem q1404 : (Jvm.Cond.soleField "EchoFair$Valley" "purse") ∈ lw_all := lw_g (lw_at lw_m6 42 rfl) rfl
theorem q1405 : (Jvm.Cond.lays "EchoFair$Valley" "EchoFair$Valley" "staffCount" "I") ∈ lw_all := lw_g (lw_at lw_m6 43 rfl) rfl
theorem q1406 : (Jvm.Cond.soleField "EchoFair$Valley" "staffCount") ∈ lw_all := lw_g (lw_at lw_m6 44 rfl) rfl
theorem q1407 : (Jvm.Cond.lays "EchoFair$Valley" "EchoFair$Valley" "replies" "I") ∈ lw_all := lw_g (lw_at lw_m6 45 rfl) rfl
theorem q1408 : (Jvm.Cond.soleField "EchoFair$Valley" "replies") ∈ lw_all := lw_g (lw_at lw_m6 46 rfl) rfl
theorem q1409 : (Jvm.Cond.lays "EchoFair$Valley" "EchoFair$Valley" "paid" "I") ∈ lw_all := lw_g (lw_at lw_m6 47 rfl) rfl
theorem q1410 : (Jvm.Cond.soleField "EchoFair$Valley" "paid") ∈ lw_all := lw_g (lw_at lw_m6 48 rfl) rfl
theorem q1411 : (Jvm.Cond.superclass "EchoFair$Valley" "java/lang/Object") ∈ lw_all := lw_g (lw_at lw_m6 49 rfl) rfl
theorem q1582 : (Jvm.Cond.instanceMethod ({ cls := "EchoFair$Valley", name := "trueScore", desc := "(LEchoFair$Echo;)I" } : Jvm.MethodName)) ∈ lw_all := lw_g (lw_at lw_m6 220 rfl) rfl
theorem q1583 : (Jvm.Cond.selects "EchoFair$Valley" ({ cls := "EchoFair$Valley", name := "trueScore", desc := "(LEchoFair$Echo;)I" } : Jvm.MethodName) ({ cls := "EchoFair$Valley", name := "trueScore", desc := "(LEchoFair$Echo;)I" } : Jvm.MethodName)) ∈ lw_all := lw_g (lw_at lw_m6 221 rfl) rfl
theorem q1584 : (Jvm.Cond.code ({ cls := "EchoFair$Valley", name := "trueScore", desc := "(LEchoFair$Echo;)I" } : Jvm.MethodName) prog_10_method_5_code (2 : Nat) (Option.some Jvm.ClassFile.FieldType.int)) ∈ lw_all := lw_g (lw_at lw_m6 222 rfl) rfl
theorem q1585 : (Jvm.Cond.methodLink "EchoFair$Valley" (63 : Nat) ({ cls := "java/lang/Math", name := "abs", desc := "(I)I" } : Jvm.MethodName)) ∈ lw_all := lw_g (lw_at lw_m6 223 rfl) rfl
theorem q1657 : (Jvm.Cond.selects "EchoFair$Valley" ({ cls := "java/lang/Object", name := "hashCode", desc := "()I" } : Jvm.MethodName) ({ cls := "java/lang/Object", name := "hashCode", desc := "()I" } : Jvm.MethodName)) ∈ lw_all := lw_g (lw_at lw_m7 55 rfl) rfl
theorem q1749 : (Jvm.Cond.selects "EchoFair$Valley" ({ cls := "java/lang/Object", name := "equals", desc := "(Ljava/lang/Object;)Z" } : Jvm.MethodName) ({ cls := "java/lang/Object", name := "equals", desc := "(Ljava/lang/Object;)Z" } : Jvm.MethodName)) ∈ lw_all := lw_g (lw_at lw_m7 147 rfl) rfl
theorem q2017 : (Jvm.Cond.instanceMethod ({ cls := "EchoFair$Valley", name := "freePosts", desc := "()I" } : Jvm.MethodName)) ∈ lw_all := lw_g (lw_at lw_m8 175 rfl) rfl
theorem q2018 : (Jvm.Cond.selects "EchoFair$Valley" ({ cls := "EchoFair$Valley", name := "freePosts", desc := "()I" } : Jvm.MethodName) ({ cls := "EchoFair$Valley", name := "freePosts", desc := "()I" } : Jvm.MethodName)) ∈ lw_all := lw_g (lw_at lw_m8 176 rfl) rfl
theorem q2019 : (Jvm.Cond.code ({ cls := "EchoFair$Valley", name := "freePosts", desc := "()I" } : Jvm.MethodName) prog_10_method_4_code (1 : Nat) (Option.some Jvm.ClassFile.FieldType.int)) ∈ lw_all := lw_g (lw_at lw_m8 177 rfl) rfl
theorem q2343 : (Jvm.Cond.instanceMethod ({ cls := "EchoFair$Valley", name := "hire", desc := "(I)V" } : Jvm.MethodName)) ∈ lw_all := lw_g (lw_at lw_m10 21 rfl) rfl
theorem q2344 : (Jvm.Cond.selects "EchoFair$Valley" ({ cls := "EchoFair$Valley", name := "hire", desc := "(I)V" } : Jvm.MethodName) ({ cls := "EchoFair$Valley", name := "hire", desc := "(I)V" } : Jvm.MethodName)) ∈ lw_all := lw_g (lw_at lw_m10 22 rfl) rfl
theorem q2345 : (Jvm.Cond.code ({ cls := "EchoFair$Valley", name := "hire", desc := "(I)V" } : Jvm.MethodName) prog_10_method_6_code (2 : Nat) (Option.none : Option Jvm.ClassFile.FieldType)) ∈ lw_all := lw_g (lw_at lw_m10 23 rfl) rfl
theorem q2371 : (Jvm.Cond.instanceMethod ({ cls := "EchoFair$Valley", name := "copy", desc := "()LEchoFair$Valley;" } : Jvm.MethodName)) ∈ lw_all := lw_g (lw_at lw_m10 49 rfl) rfl
theorem q2372 : (Jvm.Cond.selects "EchoFair$Valley" ({ cls := "EchoFair$Valley", name := "copy", desc := "()LEchoFair$Valley;" } : Jvm.MethodName) ({ cls := "EchoFair$Valley", name := "copy", desc := "()LEchoFair$Valley;" } : Jvm.MethodName)) ∈ lw_all := lw_g (lw_at lw_m10 50 rfl) rfl
theorem q2373 : (Jvm.Cond.code ({ cls := "EchoFair$Valley", name := "copy", desc := "()LEchoFair$Valley;" } : Jvm.MethodName) prog_10_method_3_code (2 : Nat) (Option.some (Jvm.ClassFile.FieldType.object "EchoFair$Valley"))) ∈ lw_all := lw_g (lw_at lw_m10 51 rfl) rfl
theorem q2374 : (Jvm.Cond.classLink "EchoFair$Valley" (4 : Nat) "EchoFair$Valley") ∈ lw_all := lw_g (lw_at lw_m10 52 rfl) rfl
theorem q2375 : (Jvm.Cond.methodLink "EchoFair$Valley" (39 : Nat) ({ cls := "[Z", name := "clone", desc := "()Ljava/lang/Object;" } : Jvm.MethodName)) ∈ lw_all := lw_g (lw_at lw_m10 53 rfl) rfl
theorem q2379 : (Jvm.Cond.classLink "EchoFair$Valley" (40 : Nat) "[Z") ∈ lw_all := lw_g (lw_at lw_m10 57 rfl) rfl
theorem q2380 : (Jvm.Cond.methodLink "EchoFair$Valley" (44 : Nat) ({ cls := "[I", name := "clone", desc := "()Ljava/lang/Object;" } : Jvm.MethodName)) ∈ lw_all := lw_g (lw_at lw_m10 58 rfl) rfl
theorem q2384 : (Jvm.Cond.classLink "EchoFair$Valley" (45 : Nat) "[I") ∈ lw_all := lw_g (lw_at lw_m10 62 rfl) rfl
theorem q3341 : (Jvm.Cond.instanceMethod ({ cls := "EchoFair$Valley", name := "release", desc := "(I)V" } : Jvm.MethodName)) ∈ lw_all := lw_g (lw_at lw_m14 59 rfl) rfl
theorem q3342 : (Jvm.Cond.selects "EchoFair$Valley" ({ cls := "EchoFair$Valley", name := "release", desc := "(I)V" } : Jvm.MethodName) ({ cls := "EchoFair$Valley", name := "release", desc := "(I)V" } : Jvm.MethodName)) ∈ lw_all := lw_g (lw_at lw_m14 60 rfl) rfl
theorem q3343 : (Jvm.Cond.code ({ cls := "EchoFair$Valley", name := "release", desc := "(I)V" } : Jvm.MethodName) prog_10_method_7_code (3 : Nat) (Option.none : Option Jvm.ClassFile.FieldType)) ∈ lw_all := lw_g (lw_at lw_m14 61 rfl) rfl
theorem q4624 : (Jvm.Cond.castable "EchoFair$Valley" "java/lang/Object") ∈ lw_tbl := lw_at lw_m19 142 rfl
theorem q200 : (Jvm.Cond.initialized "EchoFairModel") ∈ lw_all := lw_g (lw_at lw_m1 38 rfl) rfl
theorem q982 : (Jvm.Cond.selects "EchoFairModel" ({ cls := "java/lang/Object", name := "getClass", desc := "()Ljava/lang/Class;" } : Jvm.MethodName) ({ cls := "java/lang/Object", name := "getClass", desc := "()Ljava/lang/Class;" } : Jvm.MethodName)) ∈ lw_all := lw_g (lw_at lw_m4 100 rfl) rfl
theorem q1047 : (Jvm.Cond.selects "EchoFairModel" ({ cls := "java/lang/Object", name := "toString", desc := "()Ljava/lang/String;" } : Jvm.MethodName) ({ cls := "java/lang/Object", name := "toString", desc := "()Ljava/lang/String;" } : Jvm.MethodName)) ∈ lw_all := lw_g (lw_at lw_m4 165 rfl) rfl
theorem q1658 : (Jvm.Cond.selects "EchoFairModel" ({ cls := "java/lang/Object", name := "hashCode", desc := "()I" } : Jvm.MethodName) ({ cls := "java/lang/Object", name := "hashCode", desc := "()I" } : Jvm.MethodName)) ∈ lw_all := lw_g (lw_at lw_m7 56 rfl) rfl
theorem q1750 : (Jvm.Cond.selects "EchoFairModel" ({ cls := "java/lang/Object", name := "equals", desc := "(Ljava/lang/Object;)Z" } : Jvm.MethodName) ({ cls := "java/lang/Object", name := "equals", desc := "(Ljava/lang/Object;)Z" } : Jvm.MethodName)) ∈ lw_all := lw_g (lw_at lw_m7 148 rfl) rfl
theorem q3808 : (Jvm.Cond.instantiable "EchoFairModel" (28 : Nat)) ∈ lw_all := lw_g (lw_at lw_m16 46 rfl) rfl
theorem q3810 : (Jvm.Cond.instanceMethod ({ cls := "EchoFairModel", name := "<init>", desc := "()V" } : Jvm.MethodName)) ∈ lw_all := lw_g (lw_at lw_m16 48 rfl) rfl
theorem q3811 : (Jvm.Cond.code ({ cls := "EchoFairModel", name := "<init>", desc := "()V" } : Jvm.MethodName) prog_12_method_1_code (3 : Nat) (Option.none : Option Jvm.ClassFile.FieldType)) ∈ lw_all := lw_g (lw_at lw_m16 49 rfl) rfl
theorem q3812 : (Jvm.Cond.methodLink "EchoFairModel" (1 : Nat) ({ cls := "java/lang/Object", name := "<init>", desc := "()V" } : Jvm.MethodName)) ∈ lw_all := lw_g (lw_at lw_m16 50 rfl) rfl
theorem q3813 : (Jvm.Cond.stringRef "EchoFairModel" (51 : Nat) "fair 5;fog 2 7 4;echo yodel 3 6 9 5;echo mumble 8 2 4 1;echo bell 5 9 14 8;echo horn 4 5 6 3;valley green 4 1 10 60;valley deep 8 2 8 5;valley old 2 1 15 30;tested green yodel;tested deep mumble;tested old horn;") ∈ lw_tbl := lw_at lw_m16 51 rfl
theorem q3814 : (Jvm.Cond.methodLink "EchoFairModel" (53 : Nat) ({ cls := "java/lang/String", name := "length", desc := "()I" } : Jvm.MethodName)) ∈ lw_all := lw_g (lw_at lw_m16 52 rfl) rfl
theorem q3815 : (Jvm.Cond.methodLink "EchoFairModel" (59 : Nat) ({ cls := "java/lang/String", name := "charAt", desc := "(I)C" } : Jvm.MethodName)) ∈ lw_all := lw_g (lw_at lw_m16 53 rfl) rfl
theorem q3816 : (Jvm.Cond.methodLink "EchoFairModel" (65 : Nat) ({ cls := "EchoFairModel", name := "load", desc := "()I" } : Jvm.MethodName)) ∈ lw_all := lw_g (lw_at lw_m16 54 rfl) rfl
theorem q3817 : (Jvm.Cond.instanceMethod ({ cls := "EchoFairModel", name := "load", desc := "()I" } : Jvm.MethodName)) ∈ lw_all := lw_g (lw_at lw_m16 55 rfl) rfl
theorem q3818 : (Jvm.Cond.selects "EchoFairModel" ({ cls := "EchoFairModel", name := "load", desc := "()I" } : Jvm.MethodName) ({ cls := "EchoFairModel", name := "load", desc := "()I" } : Jvm.MethodName)) ∈ lw_all := lw_g (lw_at lw_m16 56 rfl) rfl
theorem q3819 : (Jvm.Cond.code ({ cls := "EchoFairModel", name := "load", desc := "()I" } : Jvm.MethodName) prog_12_method_81_code (2 : Nat) (Option.some Jvm.ClassFile.FieldType.int)) ∈ lw_all := lw_g (lw_at lw_m16 57 rfl) rfl
theorem q3820 : (Jvm.Cond.methodLink "EchoFairModel" (71 : Nat) ({ cls := "EchoFairModel", name := "copies", desc := "([II[II)V" } : Jvm.MethodName)) ∈ lw_all := lw_g (lw_at lw_m16 58 rfl) rfl
theorem q3821 : (Jvm.Cond.static ({ cls := "EchoFairModel", name := "copies", desc := "([II[II)V" } : Jvm.MethodName)) ∈ lw_all := lw_g (lw_at lw_m16 59 rfl) rfl
theorem q3822 : (Jvm.Cond.code ({ cls := "EchoFairModel", name := "copies", desc := "([II[II)V" } : Jvm.MethodName) prog_12_method_7_code (5 : Nat) (Option.none : Option Jvm.ClassFile.FieldType)) ∈ lw_all := lw_g (lw_at lw_m16 60 rfl) rfl
theorem q3823 : (Jvm.Cond.methodLink "EchoFairModel" (314 : Nat) ({ cls := "EchoFairModel", name := "startsText", desc := "()V" } : Jvm.MethodName)) ∈ lw_all := lw_g (lw_at lw_m16 61 rfl) rfl
theorem q3824 : (Jvm.Cond.privateMethod ({ cls := "EchoFairModel", name := "startsText", desc := "()V" } : Jvm.MethodName)) ∈ lw_tbl := lw_at lw_m16 62 rfl
theorem q3825 : (Jvm.Cond.instanceMethod ({ cls := "EchoFairModel", name := "startsText", desc := "()V" } : Jvm.MethodName)) ∈ lw_all := lw_g (lw_at lw_m16 63 rfl) rfl
theorem q3826 : (Jvm.Cond.code ({ cls := "EchoFairModel", name := "startsText", desc := "()V" } : Jvm.MethodName) prog_12_method_72_code (1 : Nat) (Option.none : Option Jvm.ClassFile.FieldType)) ∈ lw_all := lw_g (lw_at lw_m16 64 rfl) rfl
theorem q3827 : (Jvm.Cond.stringRef "EchoFairModel" (317 : Nat) "fair") ∈ lw_tbl := lw_at lw_m16 65 rfl
theorem q3828 : (Jvm.Cond.methodLink "EchoFairModel" (279 : Nat) ({ cls := "EchoFairModel", name := "keyword", desc := "(Ljava/lang/String;)V" } : Jvm.MethodName)) ∈ lw_all := lw_g (lw_at lw_m16 66 rfl) rfl
theorem q3829 : (Jvm.Cond.privateMethod ({ cls := "EchoFairModel", name := "keyword", desc := "(Ljava/lang/String;)V" } : Jvm.MethodName)) ∈ lw_tbl := lw_at lw_m16 67 rfl
theorem q3830 : (Jvm.Cond.instanceMethod ({ cls := "EchoFairModel", name := "keyword", desc := "(Ljava/lang/String;)V" } : Jvm.MethodName)) ∈ lw_all := lw_g (lw_at lw_m16 68 rfl) rfl
theorem q3831 : (Jvm.Cond.code ({ cls := "EchoFairModel", name := "keyword", desc := "(Ljava/lang/String;)V" } : Jvm.MethodName) prog_12_method_62_code (2 : Nat) (Option.none : Option Jvm.ClassFile.FieldType)) ∈ lw_all := lw_g (lw_at lw_m16 69 rfl) rfl
theorem q3832 : (Jvm.Cond.methodLink "EchoFairModel" (242 : Nat) ({ cls := "EchoFairModel", name := "sees", desc := "(Ljava/lang/String;)Z" } : Jvm.MethodName)) ∈ lw_all := lw_g (lw_at lw_m16 70 rfl) rfl
theorem q3833 : (Jvm.Cond.privateMethod ({ cls := "EchoFairModel", name := "sees", desc := "(Ljava/lang/String;)Z" } : Jvm.MethodName)) ∈ lw_tbl := lw_at lw_m16 71 rfl
theorem q3834 : (Jvm.Cond.instanceMethod ({ cls := "EchoFairModel", name := "sees", desc := "(Ljava/lang/String;)Z" } : Jvm.MethodName)) ∈ lw_all := lw_g (lw_at lw_m16 72 rfl) rfl
theorem q3835 : (Jvm.Cond.code ({ cls := "EchoFairModel", name := "sees", desc := "(Ljava/lang/String;)Z" } : Jvm.MethodName) prog_12_method_60_code (4 : Nat) (Option.some Jvm.ClassFile.FieldType.boolean)) ∈ lw_all := lw_g (lw_at lw_m16 73 rfl) rfl
theorem q3836 : (Jvm.Cond.methodLink "EchoFairModel" (239 : Nat) ({ cls := "EchoFairModel", name := "next", desc := "()I" } : Jvm.MethodName)) ∈ lw_all := lw_g (lw_at lw_m16 74 rfl) rfl
theorem q3837 : (Jvm.Cond.privateMethod ({ cls := "EchoFairModel", name := "next", desc := "()I" } : Jvm.MethodName)) ∈ lw_tbl := lw_at lw_m16 75 rfl
theorem q3838 : (Jvm.Cond.instanceMethod ({ cls := "EchoFairModel", name := "next", desc := "()I" } : Jvm.MethodName)) ∈ lw_all := lw_g (lw_at lw_m16 76 rfl) rfl
theorem q3839 : (Jvm.Cond.code ({ cls := "EchoFairModel", name := "next", desc := "()I" } : Jvm.MethodName) prog_12_method_58_code (1 : Nat) (Option.some Jvm.ClassFile.FieldType.int)) ∈ lw_all := lw_g (lw_at lw_m16 77 rfl) rfl
theorem q3840 : (Jvm.Cond.methodLink "EchoFairModel" (220 : Nat) ({ cls := "EchoFairModel", name := "byteAt", desc := "(I)I" } : Jvm.MethodName)) ∈ lw_all := lw_g (lw_at lw_m16 78 rfl) rfl
theorem q3841 : (Jvm.Cond.privateMethod ({ cls := "EchoFairModel", name := "byteAt", desc := "(I)I" } : Jvm.MethodName)) ∈ lw_tbl := lw_at lw_m16 79 rfl
theorem q3842 : (Jvm.Cond.instanceMethod ({ cls := "EchoFairModel", name := "byteAt", desc := "(I)I" } : Jvm.MethodName)) ∈ lw_all := lw_g (lw_at lw_m16 80 rfl) rfl
theorem q3843 : (Jvm.Cond.code ({ cls := "EchoFairModel", name := "byteAt", desc := "(I)I" } : Jvm.MethodName) prog_12_method_57_code (2 : Nat) (Option.some Jvm.ClassFile.FieldType.int)) ∈ lw_all := lw_g (lw_at lw_m16 81 rfl) rfl
theorem q3844 : (Jvm.Cond.constantLong "EchoFairModel" (229 : Nat) (97 : Int64)) ∈ lw_all := lw_g (lw_at lw_m16 82 rfl) rfl
theorem q3845 : (Jvm.Cond.constantLong "EchoFairModel" (231 : Nat) (122 : Int64)) ∈ lw_all := lw_g (lw_at lw_m16 83 rfl) rfl
theorem q3846 : (Jvm.Cond.methodLink "EchoFairModel" (75 : Nat) ({ cls := "EchoFairModel", name := "in", desc := "(JJJ)Z" } : Jvm.MethodName)) ∈ lw_all := lw_g (lw_at lw_m16 84 rfl) rfl
theorem q3847 : (Jvm.Cond.static ({ cls := "EchoFairModel", name := "in", desc := "(JJJ)Z" } : Jvm.MethodName)) ∈ lw_all := lw_g (lw_at lw_m16 85 rfl) rfl
theorem q3848 : (Jvm.Cond.code ({ cls := "EchoFairModel", name := "in", desc := "(JJJ)Z" } : Jvm.MethodName) prog_12_method_3_code (6 : Nat) (Option.some Jvm.ClassFile.FieldType.boolean)) ∈ lw_all := lw_g (lw_at lw_m16 86 rfl) rfl
theorem q3849 : (Jvm.Cond.methodLink "EchoFairModel" (246 : Nat) ({ cls := "EchoFairModel", name := "must", desc := "(ZI)V" } : Jvm.MethodName)) ∈ lw_all := lw_g (lw_at lw_m16 87 rfl) rfl
theorem q3850 : (Jvm.Cond.privateMethod ({ cls := "EchoFairModel", name := "must", desc := "(ZI)V" } : Jvm.MethodName)) ∈ lw_tbl := lw_at lw_m16 88 rfl
theorem q3851 : (Jvm.Cond.instanceMethod ({ cls := "EchoFairModel", name := "must", desc := "(ZI)V" } : Jvm.MethodName)) ∈ lw_all := lw_g (lw_at lw_m16 89 rfl) rfl
theorem q3852 : (Jvm.Cond.code ({ cls := "EchoFairModel", name := "must", desc := "(ZI)V" } : Jvm.MethodName) prog_12_method_59_code (3 : Nat) (Option.none : Option Jvm.ClassFile.FieldType)) ∈ lw_all := lw_g (lw_at lw_m16 90 rfl) rfl
theorem q3853 : (Jvm.Cond.methodLink "EchoFairModel" (250 : Nat) ({ cls := "EchoFairModel", name := "goesPast", desc := "()V" } : Jvm.MethodName)) ∈ lw_all := lw_g (lw_at lw_m16 91 rfl) rfl
theorem q3854 : (Jvm.Cond.privateMethod ({ cls := "EchoFairModel", name := "goesPast", desc := "()V" } : Jvm.MethodName)) ∈ lw_tbl := lw_at lw_m16 92 rfl
theorem q3855 : (Jvm.Cond.instanceMethod ({ cls := "EchoFairModel", name := "goesPast", desc := "()V" } : Jvm.MethodName)) ∈ lw_all := lw_g (lw_at lw_m16 93 rfl) rfl
theorem q3856 : (Jvm.Cond.code ({ cls := "EchoFairModel", name := "goesPast", desc := "()V" } : Jvm.MethodName) prog_12_method_61_code (1 : Nat) (Option.none : Option Jvm.ClassFile.FieldType)) ∈ lw_all := lw_g (lw_at lw_m16 94 rfl) rfl
theorem q3857 : (Jvm.Cond.methodLink "EchoFairModel" (283 : Nat) ({ cls := "EchoFairModel", name := "number", desc := "(II)I" } : Jvm.MethodName)) ∈ lw_all := lw_g (lw_at lw_m16 95 rfl) rfl
theorem q3858 : (Jvm.Cond.privateMethod ({ cls := "EchoFairModel", name := "number", desc := "(II)I" } : Jvm.MethodName)) ∈ lw_tbl := lw_at lw_m16 96 rfl
theorem q3859 : (Jvm.Cond.instanceMethod ({ cls := "EchoFairModel", name := "number", desc := "(II)I" } : Jvm.MethodName)) ∈ lw_all := lw_g (lw_at lw_m16 97 rfl) rfl
theorem q3860 : (Jvm.Cond.code ({ cls := "EchoFairModel", name := "number", desc := "(II)I" } : Jvm.MethodName) prog_12_method_64_code (4 : Nat) (Option.some Jvm.ClassFile.FieldType.int)) ∈ lw_all := lw_g (lw_at lw_m16 98 rfl) rfl
theorem q3861 : (Jvm.Cond.constantLong "EchoFairModel" (253 : Nat) (48 : Int64)) ∈ lw_all := lw_g (lw_at lw_m16 99 rfl) rfl
theorem q3862 : (Jvm.Cond.constantLong "EchoFairModel" (255 : Nat) (57 : Int64)) ∈ lw_all := lw_g (lw_at lw_m16 100 rfl) rfl
theorem q3863 : (Jvm.Cond.methodLink "EchoFairModel" (289 : Nat) ({ cls := "EchoFairModel", name := "semicolon", desc := "()V" } : Jvm.MethodName)) ∈ lw_all := lw_g (lw_at lw_m16 101 rfl) rfl
theorem q3864 : (Jvm.Cond.privateMethod ({ cls := "EchoFairModel", name := "semicolon", desc := "()V" } : Jvm.MethodName)) ∈ lw_tbl := lw_at lw_m16 102 rfl
theorem q3865 : (Jvm.Cond.instanceMethod ({ cls := "EchoFairModel", name := "semicolon", desc := "()V" } : Jvm.MethodName)) ∈ lw_all := lw_g (lw_at lw_m16 103 rfl) rfl
theorem q3866 : (Jvm.Cond.code ({ cls := "EchoFairModel", name := "semicolon", desc := "()V" } : Jvm.MethodName) prog_12_method_63_code (1 : Nat) (Option.none : Option Jvm.ClassFile.FieldType)) ∈ lw_all := lw_g (lw_at lw_m16 104 rfl) rfl
theorem q3867 : (Jvm.Cond.methodLink "EchoFairModel" (319 : Nat) ({ cls := "EchoFairModel", name := "fogLine", desc := "()V" } : Jvm.MethodName)) ∈ lw_all := lw_g (lw_at lw_m16 105 rfl) rfl
theorem q3868 : (Jvm.Cond.privateMethod ({ cls := "EchoFairModel", name := "fogLine", desc := "()V" } : Jvm.MethodName)) ∈ lw_tbl := lw_at lw_m16 106 rfl
theorem q3869 : (Jvm.Cond.instanceMethod ({ cls := "EchoFairModel", name := "fogLine", desc := "()V" } : Jvm.MethodName)) ∈ lw_all := lw_g (lw_at lw_m16 107 rfl) rfl
theorem q3870 : (Jvm.Cond.code ({ cls := "EchoFairModel", name := "fogLine", desc := "()V" } : Jvm.MethodName) prog_12_method_76_code (2 : Nat) (Option.none : Option Jvm.ClassFile.FieldType)) ∈ lw_all := lw_g (lw_at lw_m16 108 rfl) rfl
theorem q3871 : (Jvm.Cond.stringRef "EchoFairModel" (277 : Nat) "fog") ∈ lw_tbl := lw_at lw_m16 109 rfl
theorem q3872 : (Jvm.Cond.methodLink "EchoFairModel" (286 : Nat) ({ cls := "EchoFairModel", name := "isNumberNext", desc := "()Z" } : Jvm.MethodName)) ∈ lw_all := lw_g (lw_at lw_m16 110 rfl) rfl
theorem q3873 : (Jvm.Cond.privateMethod ({ cls := "EchoFairModel", name := "isNumberNext", desc := "()Z" } : Jvm.MethodName)) ∈ lw_tbl := lw_at lw_m16 111 rfl
theorem q3874 : (Jvm.Cond.instanceMethod ({ cls := "EchoFairModel", name := "isNumberNext", desc := "()Z" } : Jvm.MethodName)) ∈ lw_all := lw_g (lw_at lw_m16 112 rfl) rfl
theorem q3875 : (Jvm.Cond.code ({ cls := "EchoFairModel", name := "isNumberNext", desc := "()Z" } : Jvm.MethodName) prog_12_method_65_code (1 : Nat) (Option.some Jvm.ClassFile.FieldType.boolean)) ∈ lw_all := lw_g (lw_at lw_m16 113 rfl) rfl
theorem q3876 : (Jvm.Cond.methodLink "EchoFairModel" (322 : Nat) ({ cls := "EchoFairModel", name := "statement", desc := "()V" } : Jvm.MethodName)) ∈ lw_all := lw_g (lw_at lw_m16 114 rfl) rfl
theorem q3877 : (Jvm.Cond.privateMethod ({ cls := "EchoFairModel", name := "statement", desc := "()V" } : Jvm.MethodName)) ∈ lw_tbl := lw_at lw_m16 115 rfl
theorem q3878 : (Jvm.Cond.instanceMethod ({ cls := "EchoFairModel", name := "statement", desc := "()V" } : Jvm.MethodName)) ∈ lw_all := lw_g (lw_at lw_m16 116 rfl) rfl
theorem q3879 : (Jvm.Cond.code ({ cls := "EchoFairModel", name := "statement", desc := "()V" } : Jvm.MethodName) prog_12_method_80_code (2 : Nat) (Option.none : Option Jvm.ClassFile.FieldType)) ∈ lw_all := lw_g (lw_at lw_m16 117 rfl) rfl
theorem q3880 : (Jvm.Cond.stringRef "EchoFairModel" (299 : Nat) "echo") ∈ lw_tbl := lw_at lw_m16 118 rfl
theorem q3881 : (Jvm.Cond.methodLink "EchoFairModel" (301 : Nat) ({ cls := "EchoFairModel", name := "echoLine", desc := "()V" } : Jvm.MethodName)) ∈ lw_all := lw_g (lw_at lw_m16 119 rfl) rfl
theorem q3882 : (Jvm.Cond.privateMethod ({ cls := "EchoFairModel", name := "echoLine", desc := "()V" } : Jvm.MethodName)) ∈ lw_tbl := lw_at lw_m16 120 rfl
theorem q3883 : (Jvm.Cond.instanceMethod ({ cls := "EchoFairModel", name := "echoLine", desc := "()V" } : Jvm.MethodName)) ∈ lw_all := lw_g (lw_at lw_m16 121 rfl) rfl
theorem q3884 : (Jvm.Cond.code ({ cls := "EchoFairModel", name := "echoLine", desc := "()V" } : Jvm.MethodName) prog_12_method_77_code (6 : Nat) (Option.none : Option Jvm.ClassFile.FieldType)) ∈ lw_all := lw_g (lw_at lw_m16 122 rfl) rfl
theorem q3885 : (Jvm.Cond.methodLink "EchoFairModel" (259 : Nat) ({ cls := "EchoFairModel", name := "placeOf", desc := "(IZ)I" } : Jvm.MethodName)) ∈ lw_all := lw_g (lw_at lw_m16 123 rfl) rfl
theorem q3886 : (Jvm.Cond.static ({ cls := "EchoFairModel", name := "placeOf", desc := "(IZ)I" } : Jvm.MethodName)) ∈ lw_all := lw_g (lw_at lw_m16 124 rfl) rfl
theorem q3887 : (Jvm.Cond.code ({ cls := "EchoFairModel", name := "placeOf", desc := "(IZ)I" } : Jvm.MethodName) prog_12_method_68_code (2 : Nat) (Option.some Jvm.ClassFile.FieldType.int)) ∈ lw_all := lw_g (lw_at lw_m16 125 rfl) rfl
theorem q3888 : (Jvm.Cond.methodLink "EchoFairModel" (292 : Nat) ({ cls := "EchoFairModel", name := "newName", desc := "(IZ)V" } : Jvm.MethodName)) ∈ lw_all := lw_g (lw_at lw_m16 126 rfl) rfl
theorem q3889 : (Jvm.Cond.privateMethod ({ cls := "EchoFairModel", name := "newName", desc := "(IZ)V" } : Jvm.MethodName)) ∈ lw_tbl := lw_at lw_m16 127 rfl
theorem q3890 : (Jvm.Cond.instanceMethod ({ cls := "EchoFairModel", name := "newName", desc := "(IZ)V" } : Jvm.MethodName)) ∈ lw_all := lw_g (lw_at lw_m16 128 rfl) rfl
theorem q3891 : (Jvm.Cond.code ({ cls := "EchoFairModel", name := "newName", desc := "(IZ)V" } : Jvm.MethodName) prog_12_method_71_code (4 : Nat) (Option.none : Option Jvm.ClassFile.FieldType)) ∈ lw_all := lw_g (lw_at lw_m16 129 rfl) rfl
theorem q3892 : (Jvm.Cond.methodLink "EchoFairModel" (266 : Nat) ({ cls := "EchoFairModel", name := "isName", desc := "()Z" } : Jvm.MethodName)) ∈ lw_all := lw_g (lw_at lw_m16 130 rfl) rfl
theorem q3893 : (Jvm.Cond.privateMethod ({ cls := "EchoFairModel", name := "isName", desc := "()Z" } : Jvm.MethodName)) ∈ lw_tbl := lw_at lw_m16 131 rfl
theorem q3894 : (Jvm.Cond.instanceMethod ({ cls := "EchoFairModel", name := "isName", desc := "()Z" } : Jvm.MethodName)) ∈ lw_all := lw_g (lw_at lw_m16 132 rfl) rfl
theorem q3895 : (Jvm.Cond.code ({ cls := "EchoFairModel", name := "isName", desc := "()Z" } : Jvm.MethodName) prog_12_method_66_code (2 : Nat) (Option.some Jvm.ClassFile.FieldType.boolean)) ∈ lw_all := lw_g (lw_at lw_m16 133 rfl) rfl
theorem q3896 : (Jvm.Cond.constantLong "EchoFairModel" (257 : Nat) (6 : Int64)) ∈ lw_all := lw_g (lw_at lw_m16 134 rfl) rfl
theorem q3897 : (Jvm.Cond.methodLink "EchoFairModel" (270 : Nat) ({ cls := "EchoFairModel", name := "thingHere", desc := "(Z)I" } : Jvm.MethodName)) ∈ lw_all := lw_g (lw_at lw_m16 135 rfl) rfl
theorem q3898 : (Jvm.Cond.privateMethod ({ cls := "EchoFairModel", name := "thingHere", desc := "(Z)I" } : Jvm.MethodName)) ∈ lw_tbl := lw_at lw_m16 136 rfl
theorem q3899 : (Jvm.Cond.instanceMethod ({ cls := "EchoFairModel", name := "thingHere", desc := "(Z)I" } : Jvm.MethodName)) ∈ lw_all := lw_g (lw_at lw_m16 137 rfl) rfl
theorem q3900 : (Jvm.Cond.code ({ cls := "EchoFairModel", name := "thingHere", desc := "(Z)I" } : Jvm.MethodName) prog_12_method_69_code (3 : Nat) (Option.some Jvm.ClassFile.FieldType.int)) ∈ lw_all := lw_g (lw_at lw_m16 138 rfl) rfl
theorem q3901 : (Jvm.Cond.methodLink "EchoFairModel" (263 : Nat) ({ cls := "EchoFairModel", name := "isNamed", desc := "(I)Z" } : Jvm.MethodName)) ∈ lw_all := lw_g (lw_at lw_m16 139 rfl) rfl
theorem q3902 : (Jvm.Cond.privateMethod ({ cls := "EchoFairModel", name := "isNamed", desc := "(I)Z" } : Jvm.MethodName)) ∈ lw_tbl := lw_at lw_m16 140 rfl
theorem q3903 : (Jvm.Cond.instanceMethod ({ cls := "EchoFairModel", name := "isNamed", desc := "(I)Z" } : Jvm.MethodName)) ∈ lw_all := lw_g (lw_at lw_m16 141 rfl) rfl
theorem q3904 : (Jvm.Cond.code ({ cls := "EchoFairModel", name := "isNamed", desc := "(I)Z" } : Jvm.MethodName) prog_12_method_67_code (3 : Nat) (Option.some Jvm.ClassFile.FieldType.boolean)) ∈ lw_all := lw_g (lw_at lw_m16 142 rfl) rfl
theorem q3905 : (Jvm.Cond.methodLink "EchoFairModel" (116 : Nat) ({ cls := "EchoFairModel", name := "puts", desc := "(III)V" } : Jvm.MethodName)) ∈ lw_all := lw_g (lw_at lw_m16 143 rfl) rfl
theorem q3906 : (Jvm.Cond.privateMethod ({ cls := "EchoFairModel", name := "puts", desc := "(III)V" } : Jvm.MethodName)) ∈ lw_tbl := lw_at lw_m16 144 rfl
theorem q3907 : (Jvm.Cond.instanceMethod ({ cls := "EchoFairModel", name := "puts", desc := "(III)V" } : Jvm.MethodName)) ∈ lw_all := lw_g (lw_at lw_m16 145 rfl) rfl
theorem q3908 : (Jvm.Cond.code ({ cls := "EchoFairModel", name := "puts", desc := "(III)V" } : Jvm.MethodName) prog_12_method_11_code (4 : Nat) (Option.none : Option Jvm.ClassFile.FieldType)) ∈ lw_all := lw_g (lw_at lw_m16 146 rfl) rfl
theorem q3909 : (Jvm.Cond.stringRef "EchoFairModel" (304 : Nat) "valley") ∈ lw_tbl := lw_at lw_m16 147 rfl
theorem q3910 : (Jvm.Cond.methodLink "EchoFairModel" (306 : Nat) ({ cls := "EchoFairModel", name := "valleyLine", desc := "()V" } : Jvm.MethodName)) ∈ lw_all := lw_g (lw_at lw_m16 148 rfl) rfl
theorem q3911 : (Jvm.Cond.privateMethod ({ cls := "EchoFairModel", name := "valleyLine", desc := "()V" } : Jvm.MethodName)) ∈ lw_tbl := lw_at lw_m16 149 rfl
theorem q3912 : (Jvm.Cond.instanceMethod ({ cls := "EchoFairModel", name := "valleyLine", desc := "()V" } : Jvm.MethodName)) ∈ lw_all := lw_g (lw_at lw_m16 150 rfl) rfl
theorem q3913 : (Jvm.Cond.code ({ cls := "EchoFairModel", name := "valleyLine", desc := "()V" } : Jvm.MethodName) prog_12_method_78_code (6 : Nat) (Option.none : Option Jvm.ClassFile.FieldType)) ∈ lw_all := lw_g (lw_at lw_m16 151 rfl) rfl
theorem q3914 : (Jvm.Cond.methodLink "EchoFairModel" (112 : Nat) ({ cls := "EchoFairModel", name := "putsValley", desc := "(III)V" } : Jvm.MethodName)) ∈ lw_all := lw_g (lw_at lw_m16 152 rfl) rfl
theorem q3915 : (Jvm.Cond.privateMethod ({ cls := "EchoFairModel", name := "putsValley", desc := "(III)V" } : Jvm.MethodName)) ∈ lw_tbl := lw_at lw_m16 153 rfl
theorem q3916 : (Jvm.Cond.instanceMethod ({ cls := "EchoFairModel", name := "putsValley", desc := "(III)V" } : Jvm.MethodName)) ∈ lw_all := lw_g (lw_at lw_m16 154 rfl) rfl
theorem q3917 : (Jvm.Cond.code ({ cls := "EchoFairModel", name := "putsValley", desc := "(III)V" } : Jvm.MethodName) prog_12_method_13_code (4 : Nat) (Option.none : Option Jvm.ClassFile.FieldType)) ∈ lw_all := lw_g (lw_at lw_m16 155 rfl) rfl
theorem q3918 : (Jvm.Cond.stringRef "EchoFairModel" (309 : Nat) "tested") ∈ lw_tbl := lw_at lw_m16 156 rfl
theorem q3919 : (Jvm.Cond.methodLink "EchoFairModel" (311 : Nat) ({ cls := "EchoFairModel", name := "testedLine", desc := "()V" } : Jvm.MethodName)) ∈ lw_all := lw_g (lw_at lw_m16 157 rfl) rfl
theorem q3920 : (Jvm.Cond.privateMethod ({ cls := "EchoFairModel", name := "testedLine", desc := "()V" } : Jvm.MethodName)) ∈ lw_tbl := lw_at lw_m16 158 rfl
theorem q3921 : (Jvm.Cond.instanceMethod ({ cls := "EchoFairModel", name := "testedLine", desc := "()V" } : Jvm.MethodName)) ∈ lw_all := lw_g (lw_at lw_m16 159 rfl) rfl
theorem q3922 : (Jvm.Cond.code ({ cls := "EchoFairModel", name := "testedLine", desc := "()V" } : Jvm.MethodName) prog_12_method_79_code (3 : Nat) (Option.none : Option Jvm.ClassFile.FieldType)) ∈ lw_all := lw_g (lw_at lw_m16 160 rfl) rfl
theorem q3923 : (Jvm.Cond.methodLink "EchoFairModel" (296 : Nat) ({ cls := "EchoFairModel", name := "mustBe", desc := "(Z)I" } : Jvm.MethodName)) ∈ lw_all := lw_g (lw_at lw_m16 161 rfl) rfl
theorem q3924 : (Jvm.Cond.privateMethod ({ cls := "EchoFairModel", name := "mustBe", desc := "(Z)I" } : Jvm.MethodName)) ∈ lw_tbl := lw_at lw_m16 162 rfl
theorem q3925 : (Jvm.Cond.instanceMethod ({ cls := "EchoFairModel", name := "mustBe", desc := "(Z)I" } : Jvm.MethodName)) ∈ lw_all := lw_g (lw_at lw_m16 163 rfl) rfl
theorem q3926 : (Jvm.Cond.code ({ cls := "EchoFairModel", name := "mustBe", desc := "(Z)I" } : Jvm.MethodName) prog_12_method_70_code (3 : Nat) (Option.some Jvm.ClassFile.FieldType.int)) ∈ lw_all := lw_g (lw_at lw_m16 164 rfl) rfl
theorem q3927 : (Jvm.Cond.methodLink "EchoFairModel" (99 : Nat) ({ cls := "EchoFairModel", name := "pair", desc := "(III)I" } : Jvm.MethodName)) ∈ lw_all := lw_g (lw_at lw_m16 165 rfl) rfl
theorem q3928 : (Jvm.Cond.static ({ cls := "EchoFairModel", name := "pair", desc := "(III)I" } : Jvm.MethodName)) ∈ lw_all := lw_g (lw_at lw_m16 166 rfl) rfl
theorem q3929 : (Jvm.Cond.code ({ cls := "EchoFairModel", name := "pair", desc := "(III)I" } : Jvm.MethodName) prog_12_method_14_code (3 : Nat) (Option.some Jvm.ClassFile.FieldType.int)) ∈ lw_all := lw_g (lw_at lw_m16 167 rfl) rfl
theorem q3930 : (Jvm.Cond.methodLink "EchoFairModel" (325 : Nat) ({ cls := "EchoFairModel", name := "endsText", desc := "()Z" } : Jvm.MethodName)) ∈ lw_all := lw_g (lw_at lw_m16 168 rfl) rfl
theorem q3931 : (Jvm.Cond.privateMethod ({ cls := "EchoFairModel", name := "endsText", desc := "()Z" } : Jvm.MethodName)) ∈ lw_tbl := lw_at lw_m16 169 rfl
theorem q3932 : (Jvm.Cond.instanceMethod ({ cls := "EchoFairModel", name := "endsText", desc := "()Z" } : Jvm.MethodName)) ∈ lw_all := lw_g (lw_at lw_m16 170 rfl) rfl
theorem q3933 : (Jvm.Cond.code ({ cls := "EchoFairModel", name := "endsText", desc := "()Z" } : Jvm.MethodName) prog_12_method_73_code (1 : Nat) (Option.some Jvm.ClassFile.FieldType.boolean)) ∈ lw_all := lw_g (lw_at lw_m16 171 rfl) rfl
theorem q3934 : (Jvm.Cond.methodLink "EchoFairModel" (210 : Nat) ({ cls := "EchoFairModel", name := "passes", desc := "(Z)Z" } : Jvm.MethodName)) ∈ lw_all := lw_g (lw_at lw_m16 172 rfl) rfl
theorem q3935 : (Jvm.Cond.privateMethod ({ cls := "EchoFairModel", name := "passes", desc := "(Z)Z" } : Jvm.MethodName)) ∈ lw_tbl := lw_at lw_m16 173 rfl
theorem q3936 : (Jvm.Cond.instanceMethod ({ cls := "EchoFairModel", name := "passes", desc := "(Z)Z" } : Jvm.MethodName)) ∈ lw_all := lw_g (lw_at lw_m16 174 rfl) rfl
theorem q3937 : (Jvm.Cond.code ({ cls := "EchoFairModel", name := "passes", desc := "(Z)Z" } : Jvm.MethodName) prog_12_method_5_code (2 : Nat) (Option.some Jvm.ClassFile.FieldType.boolean)) ∈ lw_all := lw_g (lw_at lw_m16 175 rfl) rfl
theorem q3938 : (Jvm.Cond.fieldLink "EchoFairModel" (7 : Nat) "EchoFairModel" "s" "[I") ∈ lw_all := lw_g (lw_at lw_m16 176 rfl) rfl
theorem q3939 : (Jvm.Cond.fieldLink "EchoFairModel" (13 : Nat) "EchoFairModel" "saved" "[I") ∈ lw_all := lw_g (lw_at lw_m16 177 rfl) rfl
theorem q3940 : (Jvm.Cond.fieldLink "EchoFairModel" (16 : Nat) "EchoFairModel" "held" "[I") ∈ lw_all := lw_g (lw_at lw_m16 178 rfl) rfl
theorem q3941 : (Jvm.Cond.fieldLink "EchoFairModel" (19 : Nat) "EchoFairModel" "aside" "[I") ∈ lw_all := lw_g (lw_at lw_m16 179 rfl) rfl
theorem q3942 : (Jvm.Cond.fieldLink "EchoFairModel" (22 : Nat) "EchoFairModel" "past" "[I") ∈ lw_all := lw_g (lw_at lw_m16 180 rfl) rfl
theorem q3943 : (Jvm.Cond.fieldLink "EchoFairModel" (328 : Nat) "EchoFairModel" "pastMany" "I") ∈ lw_all := lw_g (lw_at lw_m16 181 rfl) rfl
theorem q3944 : (Jvm.Cond.fieldLink "EchoFairModel" (68 : Nat) "EchoFairModel" "thrown" "I") ∈ lw_all := lw_g (lw_at lw_m16 182 rfl) rfl
theorem q3945 : (Jvm.Cond.fieldLink "EchoFairModel" (463 : Nat) "EchoFairModel" "isSaved" "Z") ∈ lw_all := lw_g (lw_at lw_m16 183 rfl) rfl
theorem q3946 : (Jvm.Cond.fieldLink "EchoFairModel" (25 : Nat) "EchoFairModel" "queue" "[I") ∈ lw_all := lw_g (lw_at lw_m16 184 rfl) rfl
theorem q3947 : (Jvm.Cond.fieldLink "EchoFairModel" (28 : Nat) "EchoFairModel" "kept" "[I") ∈ lw_all := lw_g (lw_at lw_m16 185 rfl) rfl
theorem q3948 : (Jvm.Cond.fieldLink "EchoFairModel" (31 : Nat) "EchoFairModel" "keptMany" "[I") ∈ lw_all := lw_g (lw_at lw_m16 186 rfl) rfl
theorem q3949 : (Jvm.Cond.fieldLink "EchoFairModel" (34 : Nat) "EchoFairModel" "hasApplied" "[Z") ∈ lw_all := lw_g (lw_at lw_m16 187 rfl) rfl
theorem q3950 : (Jvm.Cond.fieldLink "EchoFairModel" (122 : Nat) "EchoFairModel" "queueFrom" "I") ∈ lw_all := lw_g (lw_at lw_m16 188 rfl) rfl
theorem q3951 : (Jvm.Cond.fieldLink "EchoFairModel" (125 : Nat) "EchoFairModel" "queueMany" "I") ∈ lw_all := lw_g (lw_at lw_m16 189 rfl) rfl
theorem q3952 : (Jvm.Cond.fieldLink "EchoFairModel" (201 : Nat) "EchoFairModel" "answer" "I") ∈ lw_all := lw_g (lw_at lw_m16 190 rfl) rfl
theorem q3953 : (Jvm.Cond.fieldLink "EchoFairModel" (38 : Nat) "EchoFairModel" "buffer" "[I") ∈ lw_all := lw_g (lw_at lw_m16 191 rfl) rfl
theorem q3954 : (Jvm.Cond.fieldLink "EchoFairModel" (63 : Nat) "EchoFairModel" "length" "I") ∈ lw_all := lw_g (lw_at lw_m16 192 rfl) rfl
theorem q3955 : (Jvm.Cond.fieldLink "EchoFairModel" (217 : Nat) "EchoFairModel" "at" "I") ∈ lw_all := lw_g (lw_at lw_m16 193 rfl) rfl
theorem q3956 : (Jvm.Cond.fieldLink "EchoFairModel" (223 : Nat) "EchoFairModel" "begin" "I") ∈ lw_all := lw_g (lw_at lw_m16 194 rfl) rfl
theorem q3957 : (Jvm.Cond.fieldLink "EchoFairModel" (226 : Nat) "EchoFairModel" "wordLong" "I") ∈ lw_all := lw_g (lw_at lw_m16 195 rfl) rfl
theorem q3958 : (Jvm.Cond.fieldLink "EchoFairModel" (233 : Nat) "EchoFairModel" "error" "I") ∈ lw_all := lw_g (lw_at lw_m16 196 rfl) rfl
theorem q3959 : (Jvm.Cond.fieldLink "EchoFairModel" (236 : Nat) "EchoFairModel" "errorAt" "I") ∈ lw_all := lw_g (lw_at lw_m16 197 rfl) rfl
theorem q3960 : (Jvm.Cond.fieldLink "EchoFairModel" (274 : Nat) "EchoFairModel" "toldError" "I") ∈ lw_all := lw_g (lw_at lw_m16 198 rfl) rfl
theorem q3961 : (Jvm.Cond.fieldLink "EchoFairModel" (41 : Nat) "EchoFairModel" "toldAt" "I") ∈ lw_all := lw_g (lw_at lw_m16 199 rfl) rfl
theorem q3962 : (Jvm.Cond.fieldLink "EchoFairModel" (45 : Nat) "EchoFairModel" "told" "[I") ∈ lw_all := lw_g (lw_at lw_m16 200 rfl) rfl
theorem q3963 : (Jvm.Cond.fieldLink "EchoFairModel" (349 : Nat) "EchoFairModel" "toldMany" "I") ∈ lw_all := lw_g (lw_at lw_m16 201 rfl) rfl
theorem q3964 : (Jvm.Cond.fieldLink "EchoFairModel" (48 : Nat) "EchoFairModel" "output" "[I") ∈ lw_all := lw_g (lw_at lw_m16 202 rfl) rfl
theorem q3965 : (Jvm.Cond.fieldLink "EchoFairModel" (467 : Nat) "EchoFairModel" "outputLong" "I") ∈ lw_all := lw_g (lw_at lw_m16 203 rfl) rfl
theorem q3966 : (Jvm.Cond.laysFinal "EchoFairModel" "EchoFairModel" "s" "[I") ∈ lw_all := lw_g (lw_at lw_m16 204 rfl) rfl
theorem q3967 : (Jvm.Cond.soleField "EchoFairModel" "s") ∈ lw_all := lw_g (lw_at lw_m16 205 rfl) rfl
theorem q3968 : (Jvm.Cond.laysFinal "EchoFairModel" "EchoFairModel" "saved" "[I") ∈ lw_all := lw_g (lw_at lw_m16 206 rfl) rfl
theorem q3969 : (Jvm.Cond.soleField "EchoFairModel" "saved") ∈ lw_all := lw_g (lw_at lw_m16 207 rfl) rfl
theorem q3970 : (Jvm.Cond.laysFinal "EchoFairModel" "EchoFairModel" "held" "[I") ∈ lw_all := lw_g (lw_at lw_m16 208 rfl) rfl
theorem q3971 : (Jvm.Cond.soleField "EchoFairModel" "held") ∈ lw_all := lw_g (lw_at lw_m16 209 rfl) rfl
theorem q3972 : (Jvm.Cond.laysFinal "EchoFairModel" "EchoFairModel" "aside" "[I") ∈ lw_all := lw_g (lw_at lw_m16 210 rfl) rfl
theorem q3973 : (Jvm.Cond.soleField "EchoFairModel" "aside") ∈ lw_all := lw_g (lw_at lw_m16 211 rfl) rfl
theorem q3974 : (Jvm.Cond.laysFinal "EchoFairModel" "EchoFairModel" "past" "[I") ∈ lw_all := lw_g (lw_at lw_m16 212 rfl) rfl
theorem q3975 : (Jvm.Cond.soleField "EchoFairModel" "past") ∈ lw_all := lw_g (lw_at lw_m16 213 rfl) rfl
theorem q3976 : (Jvm.Cond.lays "EchoFairModel" "EchoFairModel" "pastMany" "I") ∈ lw_all := lw_g (lw_at lw_m16 214 rfl) rfl
theorem q3977 : (Jvm.Cond.soleField "EchoFairModel" "pastMany") ∈ lw_all := lw_g (lw_at lw_m16 215 rfl) rfl
theorem q3978 : (Jvm.Cond.lays "EchoFairModel" "EchoFairModel" "thrown" "I") ∈ lw_all := lw_g (lw_at lw_m16 216 rfl) rfl
theorem q3979 : (Jvm.Cond.soleField "EchoFairModel" "thrown") ∈ lw_all := lw_g (lw_at lw_m16 217 rfl) rfl
theorem q3980 : (Jvm.Cond.lays "EchoFairModel" "EchoFairModel" "isSaved" "Z") ∈ lw_all := lw_g (lw_at lw_m16 218 rfl) rfl
theorem q3981 : (Jvm.Cond.soleField "EchoFairModel" "isSaved") ∈ lw_all := lw_g (lw_at lw_m16 219 rfl) rfl
theorem q3982 : (Jvm.Cond.laysFinal "EchoFairModel" "EchoFairModel" "queue" "[I") ∈ lw_all := lw_g (lw_at lw_m16 220 rfl) rfl
theorem q3983 : (Jvm.Cond.soleField "EchoFairModel" "queue") ∈ lw_all := lw_g (lw_at lw_m16 221 rfl) rfl
theorem q3984 : (Jvm.Cond.laysFinal "EchoFairModel" "EchoFairModel" "kept" "[I") ∈ lw_all := lw_g (lw_at lw_m16 222 rfl) rfl
theorem q3985 : (Jvm.Cond.soleField "EchoFairModel" "kept") ∈ lw_all := lw_g (lw_at lw_m16 223 rfl) rfl
theorem q3986 : (Jvm.Cond.laysFinal "EchoFairModel" "EchoFairModel" "keptMany" "[I") ∈ lw_all := lw_g (lw_at lw_m16 224 rfl) rfl
theorem q3987 : (Jvm.Cond.soleField "EchoFairModel" "keptMany") ∈ lw_all := lw_g (lw_at lw_m16 225 rfl) rfl
theorem q3988 : (Jvm.Cond.laysFinal "EchoFairModel" "EchoFairModel" "hasApplied" "[Z") ∈ lw_all := lw_g (lw_at lw_m16 226 rfl) rfl
theorem q3989 : (Jvm.Cond.soleField "EchoFairModel" "hasApplied") ∈ lw_all := lw_g (lw_at lw_m16 227 rfl) rfl
theorem q3990 : (Jvm.Cond.lays "EchoFairModel" "EchoFairModel" "queueFrom" "I") ∈ lw_all := lw_g (lw_at lw_m16 228 rfl) rfl
theorem q3991 : (Jvm.Cond.soleField "EchoFairModel" "queueFrom") ∈ lw_all := lw_g (lw_at lw_m16 229 rfl) rfl
theorem q3992 : (Jvm.Cond.lays "EchoFairModel" "EchoFairModel" "queueMany" "I") ∈ lw_all := lw_g (lw_at lw_m16 230 rfl) rfl
theorem q3993 : (Jvm.Cond.soleField "EchoFairModel" "queueMany") ∈ lw_all := lw_g (lw_at lw_m16 231 rfl) rfl
theorem q3994 : (Jvm.Cond.lays "EchoFairModel" "EchoFairModel" "answer" "I") ∈ lw_all := lw_g (lw_at lw_m16 232 rfl) rfl
theorem q3995 : (Jvm.Cond.soleField "EchoFairModel" "answer") ∈ lw_all := lw_g (lw_at lw_m16 233 rfl) rfl
theorem q3996 : (Jvm.Cond.laysFinal "EchoFairModel" "EchoFairModel" "buffer" "[I") ∈ lw_all := lw_g (lw_at lw_m16 234 rfl) rfl
theorem q3997 : (Jvm.Cond.soleField "EchoFairModel" "buffer") ∈ lw_all := lw_g (lw_at lw_m16 235 rfl) rfl
theorem q3998 : (Jvm.Cond.lays "EchoFairModel" "EchoFairModel" "length" "I") ∈ lw_all := lw_g (lw_at lw_m16 236 rfl) rfl
theorem q3999 : (Jvm.Cond.soleField "EchoFairModel" "length") ∈ lw_all := lw_g (lw_at lw_m16 237 rfl) rfl
theorem q4000 : (Jvm.Cond.lays "EchoFairModel" "EchoFairModel" "at" "I") ∈ lw_all := lw_g (lw_at lw_m16 238 rfl) rfl
theorem q4001 : (Jvm.Cond.soleField "EchoFairModel" "at") ∈ lw_all := lw_g (lw_at lw_m16 239 rfl) rfl
theorem q4002 : (Jvm.Cond.lays "EchoFairModel" "EchoFairModel" "begin" "I") ∈ lw_all := lw_g (lw_at lw_m17 0 rfl) rfl
theorem q4003 : (Jvm.Cond.soleField "EchoFairModel" "begin") ∈ lw_all := lw_g (lw_at lw_m17 1 rfl) rfl
theorem q4004 : (Jvm.Cond.lays "EchoFairModel" "EchoFairModel" "wordLong" "I") ∈ lw_all := lw_g (lw_at lw_m17 2 rfl) rfl
theorem q4005 : (Jvm.Cond.soleField "EchoFairModel" "wordLong") ∈ lw_all := lw_g (lw_at lw_m17 3 rfl) rfl
theorem q4006 : (Jvm.Cond.lays "EchoFairModel" "EchoFairModel" "error" "I") ∈ lw_all := lw_g (lw_at lw_m17 4 rfl) rfl
theorem q4007 : (Jvm.Cond.soleField "EchoFairModel" "error") ∈ lw_all := lw_g (lw_at lw_m17 5 rfl) rfl
theorem q4008 : (Jvm.Cond.lays "EchoFairModel" "EchoFairModel" "errorAt" "I") ∈ lw_all := lw_g (lw_at lw_m17 6 rfl) rfl
theorem q4009 : (Jvm.Cond.soleField "EchoFairModel" "errorAt") ∈ lw_all := lw_g (lw_at lw_m17 7 rfl) rfl
theorem q4010 : (Jvm.Cond.lays "EchoFairModel" "EchoFairModel" "toldError" "I") ∈ lw_all := lw_g (lw_at lw_m17 8 rfl) rfl
theorem q4011 : (Jvm.Cond.soleField "EchoFairModel" "toldError") ∈ lw_all := lw_g (lw_at lw_m17 9 rfl) rfl
theorem q4012 : (Jvm.Cond.lays "EchoFairModel" "EchoFairModel" "toldAt" "I") ∈ lw_all := lw_g (lw_at lw_m17 10 rfl) rfl
theorem q4013 : (Jvm.Cond.soleField "EchoFairModel" "toldAt") ∈ lw_all := lw_g (lw_at lw_m17 11 rfl) rfl
theorem q4014 : (Jvm.Cond.laysFinal "EchoFairModel" "EchoFairModel" "told" "[I") ∈ lw_all := lw_g (lw_at lw_m17 12 rfl) rfl
theorem q4015 : (Jvm.Cond.soleField "EchoFairModel" "told") ∈ lw_all := lw_g (lw_at lw_m17 13 rfl) rfl
theorem q4016 : (Jvm.Cond.lays "EchoFairModel" "EchoFairModel" "toldMany" "I") ∈ lw_all := lw_g (lw_at lw_m17 14 rfl) rfl
theorem q4017 : (Jvm.Cond.soleField "EchoFairModel" "toldMany") ∈ lw_all := lw_g (lw_at lw_m17 15 rfl) rfl
theorem q4018 : (Jvm.Cond.laysFinal "EchoFairModel" "EchoFairModel" "output" "[I") ∈ lw_all := lw_g (lw_at lw_m17 16 rfl) rfl
theorem q4019 : (Jvm.Cond.soleField "EchoFairModel" "output") ∈ lw_all := lw_g (lw_at lw_m17 17 rfl) rfl
theorem q4020 : (Jvm.Cond.lays "EchoFairModel" "EchoFairModel" "outputLong" "I") ∈ lw_all := lw_g (lw_at lw_m17 18 rfl) rfl
theorem q4021 : (Jvm.Cond.soleField "EchoFairModel" "outputLong") ∈ lw_all := lw_g (lw_at lw_m17 19 rfl) rfl
theorem q4022 : (Jvm.Cond.superclass "EchoFairModel" "java/lang/Object") ∈ lw_all := lw_g (lw_at lw_m17 20 rfl) rfl
theorem q4024 : (Jvm.Cond.instanceMethod ({ cls := "EchoFairModel", name := "thrown", desc := "()I" } : Jvm.MethodName)) ∈ lw_all := lw_g (lw_at lw_m17 22 rfl) rfl
theorem q4025 : (Jvm.Cond.selects "EchoFairModel" ({ cls := "EchoFairModel", name := "thrown", desc := "()I" } : Jvm.MethodName) ({ cls := "EchoFairModel", name := "thrown", desc := "()I" } : Jvm.MethodName)) ∈ lw_all := lw_g (lw_at lw_m17 23 rfl) rfl
theorem q4026 : (Jvm.Cond.code ({ cls := "EchoFairModel", name := "thrown", desc := "()I" } : Jvm.MethodName) prog_12_method_2_code (1 : Nat) (Option.some Jvm.ClassFile.FieldType.int)) ∈ lw_all := lw_g (lw_at lw_m17 24 rfl) rfl
theorem q4028 : (Jvm.Cond.instanceMethod ({ cls := "EchoFairModel", name := "append", desc := "(IIIII)I" } : Jvm.MethodName)) ∈ lw_all := lw_g (lw_at lw_m17 26 rfl) rfl
theorem q4029 : (Jvm.Cond.selects "EchoFairModel" ({ cls := "EchoFairModel", name := "append", desc := "(IIIII)I" } : Jvm.MethodName) ({ cls := "EchoFairModel", name := "append", desc := "(IIIII)I" } : Jvm.MethodName)) ∈ lw_all := lw_g (lw_at lw_m17 27 rfl) rfl
theorem q4030 : (Jvm.Cond.code ({ cls := "EchoFairModel", name := "append", desc := "(IIIII)I" } : Jvm.MethodName) prog_12_method_55_code (6 : Nat) (Option.some Jvm.ClassFile.FieldType.int)) ∈ lw_all := lw_g (lw_at lw_m17 28 rfl) rfl
theorem q4031 : (Jvm.Cond.methodLink "EchoFairModel" (214 : Nat) ({ cls := "EchoFairModel", name := "four", desc := "(I)V" } : Jvm.MethodName)) ∈ lw_all := lw_g (lw_at lw_m17 29 rfl) rfl
theorem q4032 : (Jvm.Cond.privateMethod ({ cls := "EchoFairModel", name := "four", desc := "(I)V" } : Jvm.MethodName)) ∈ lw_tbl := lw_at lw_m17 30 rfl
theorem q4033 : (Jvm.Cond.instanceMethod ({ cls := "EchoFairModel", name := "four", desc := "(I)V" } : Jvm.MethodName)) ∈ lw_all := lw_g (lw_at lw_m17 31 rfl) rfl
theorem q4034 : (Jvm.Cond.code ({ cls := "EchoFairModel", name := "four", desc := "(I)V" } : Jvm.MethodName) prog_12_method_54_code (3 : Nat) (Option.none : Option Jvm.ClassFile.FieldType)) ∈ lw_all := lw_g (lw_at lw_m17 32 rfl) rfl
theorem q4036 : (Jvm.Cond.instanceMethod ({ cls := "EchoFairModel", name := "truncate", desc := "(I)I" } : Jvm.MethodName)) ∈ lw_all := lw_g (lw_at lw_m17 34 rfl) rfl
theorem q4037 : (Jvm.Cond.selects "EchoFairModel" ({ cls := "EchoFairModel", name := "truncate", desc := "(I)I" } : Jvm.MethodName) ({ cls := "EchoFairModel", name := "truncate", desc := "(I)I" } : Jvm.MethodName)) ∈ lw_all := lw_g (lw_at lw_m17 35 rfl) rfl
theorem q4038 : (Jvm.Cond.code ({ cls := "EchoFairModel", name := "truncate", desc := "(I)I" } : Jvm.MethodName) prog_12_method_56_code (2 : Nat) (Option.some Jvm.ClassFile.FieldType.int)) ∈ lw_all := lw_g (lw_at lw_m17 36 rfl) rfl
theorem q4040 : (Jvm.Cond.instanceMethod ({ cls := "EchoFairModel", name := "errorCode", desc := "()I" } : Jvm.MethodName)) ∈ lw_all := lw_g (lw_at lw_m17 38 rfl) rfl
theorem q4041 : (Jvm.Cond.selects "EchoFairModel" ({ cls := "EchoFairModel", name := "errorCode", desc := "()I" } : Jvm.MethodName) ({ cls := "EchoFairModel", name := "errorCode", desc := "()I" } : Jvm.MethodName)) ∈ lw_all := lw_g (lw_at lw_m17 39 rfl) rfl
theorem q4042 : (Jvm.Cond.code ({ cls := "EchoFairModel", name := "errorCode", desc := "()I" } : Jvm.MethodName) prog_12_method_74_code (1 : Nat) (Option.some Jvm.ClassFile.FieldType.int)) ∈ lw_all := lw_g (lw_at lw_m17 40 rfl) rfl
theorem q4044 : (Jvm.Cond.instanceMethod ({ cls := "EchoFairModel", name := "errorPosition", desc := "()I" } : Jvm.MethodName)) ∈ lw_all := lw_g (lw_at lw_m17 42 rfl) rfl
theorem q4045 : (Jvm.Cond.selects "EchoFairModel" ({ cls := "EchoFairModel", name := "errorPosition", desc := "()I" } : Jvm.MethodName) ({ cls := "EchoFairModel", name := "errorPosition", desc := "()I" } : Jvm.MethodName)) ∈ lw_all := lw_g (lw_at lw_m17 43 rfl) rfl
theorem q4046 : (Jvm.Cond.code ({ cls := "EchoFairModel", name := "errorPosition", desc := "()I" } : Jvm.MethodName) prog_12_method_75_code (1 : Nat) (Option.some Jvm.ClassFile.FieldType.int)) ∈ lw_all := lw_g (lw_at lw_m17 44 rfl) rfl
theorem q4049 : (Jvm.Cond.instanceMethod ({ cls := "EchoFairModel", name := "executeCommands", desc := "()I" } : Jvm.MethodName)) ∈ lw_all := lw_g (lw_at lw_m17 47 rfl) rfl
theorem q4050 : (Jvm.Cond.selects "EchoFairModel" ({ cls := "EchoFairModel", name := "executeCommands", desc := "()I" } : Jvm.MethodName) ({ cls := "EchoFairModel", name := "executeCommands", desc := "()I" } : Jvm.MethodName)) ∈ lw_all := lw_g (lw_at lw_m17 48 rfl) rfl
theorem q4051 : (Jvm.Cond.code ({ cls := "EchoFairModel", name := "executeCommands", desc := "()I" } : Jvm.MethodName) prog_12_method_88_code (2 : Nat) (Option.some Jvm.ClassFile.FieldType.int)) ∈ lw_all := lw_g (lw_at lw_m17 49 rfl) rfl
theorem q4052 : (Jvm.Cond.methodLink "EchoFairModel" (376 : Nat) ({ cls := "EchoFairModel", name := "readsOne", desc := "()V" } : Jvm.MethodName)) ∈ lw_all := lw_g (lw_at lw_m17 50 rfl) rfl
theorem q4053 : (Jvm.Cond.privateMethod ({ cls := "EchoFairModel", name := "readsOne", desc := "()V" } : Jvm.MethodName)) ∈ lw_tbl := lw_at lw_m17 51 rfl
theorem q4054 : (Jvm.Cond.instanceMethod ({ cls := "EchoFairModel", name := "readsOne", desc := "()V" } : Jvm.MethodName)) ∈ lw_all := lw_g (lw_at lw_m17 52 rfl) rfl
theorem q4055 : (Jvm.Cond.code ({ cls := "EchoFairModel", name := "readsOne", desc := "()V" } : Jvm.MethodName) prog_12_method_85_code (2 : Nat) (Option.none : Option Jvm.ClassFile.FieldType)) ∈ lw_all := lw_g (lw_at lw_m17 53 rfl) rfl
theorem q4056 : (Jvm.Cond.methodLink "EchoFairModel" (346 : Nat) ({ cls := "EchoFairModel", name := "commandHere", desc := "()I" } : Jvm.MethodName)) ∈ lw_all := lw_g (lw_at lw_m17 54 rfl) rfl
theorem q4057 : (Jvm.Cond.privateMethod ({ cls := "EchoFairModel", name := "commandHere", desc := "()I" } : Jvm.MethodName)) ∈ lw_tbl := lw_at lw_m17 55 rfl
theorem q4058 : (Jvm.Cond.instanceMethod ({ cls := "EchoFairModel", name := "commandHere", desc := "()I" } : Jvm.MethodName)) ∈ lw_all := lw_g (lw_at lw_m17 56 rfl) rfl
theorem q4059 : (Jvm.Cond.code ({ cls := "EchoFairModel", name := "commandHere", desc := "()I" } : Jvm.MethodName) prog_12_method_83_code (1 : Nat) (Option.some Jvm.ClassFile.FieldType.int)) ∈ lw_all := lw_g (lw_at lw_m17 57 rfl) rfl
theorem q4060 : (Jvm.Cond.stringRef "EchoFairModel" (339 : Nat) "pass") ∈ lw_tbl := lw_at lw_m17 58 rfl
theorem q4061 : (Jvm.Cond.stringRef "EchoFairModel" (341 : Nat) "test") ∈ lw_tbl := lw_at lw_m17 59 rfl
theorem q4062 : (Jvm.Cond.methodLink "EchoFairModel" (343 : Nat) ({ cls := "EchoFairModel", name := "otherCommand", desc := "()I" } : Jvm.MethodName)) ∈ lw_all := lw_g (lw_at lw_m17 60 rfl) rfl
theorem q4063 : (Jvm.Cond.privateMethod ({ cls := "EchoFairModel", name := "otherCommand", desc := "()I" } : Jvm.MethodName)) ∈ lw_tbl := lw_at lw_m17 61 rfl
theorem q4064 : (Jvm.Cond.instanceMethod ({ cls := "EchoFairModel", name := "otherCommand", desc := "()I" } : Jvm.MethodName)) ∈ lw_all := lw_g (lw_at lw_m17 62 rfl) rfl
theorem q4065 : (Jvm.Cond.code ({ cls := "EchoFairModel", name := "otherCommand", desc := "()I" } : Jvm.MethodName) prog_12_method_82_code (1 : Nat) (Option.some Jvm.ClassFile.FieldType.int)) ∈ lw_all := lw_g (lw_at lw_m17 63 rfl) rfl
theorem q4066 : (Jvm.Cond.stringRef "EchoFairModel" (331 : Nat) "dismiss") ∈ lw_tbl := lw_at lw_m17 64 rfl
theorem q4067 : (Jvm.Cond.stringRef "EchoFairModel" (333 : Nat) "wage") ∈ lw_tbl := lw_at lw_m17 65 rfl
theorem q4068 : (Jvm.Cond.stringRef "EchoFairModel" (335 : Nat) "fund") ∈ lw_tbl := lw_at lw_m17 66 rfl
theorem q4069 : (Jvm.Cond.stringRef "EchoFairModel" (337 : Nat) "train") ∈ lw_tbl := lw_at lw_m17 67 rfl
theorem q4070 : (Jvm.Cond.methodLink "EchoFairModel" (352 : Nat) ({ cls := "EchoFairModel", name := "partsOf", desc := "(II)V" } : Jvm.MethodName)) ∈ lw_all := lw_g (lw_at lw_m17 68 rfl) rfl
theorem q4071 : (Jvm.Cond.privateMethod ({ cls := "EchoFairModel", name := "partsOf", desc := "(II)V" } : Jvm.MethodName)) ∈ lw_tbl := lw_at lw_m17 69 rfl
theorem q4072 : (Jvm.Cond.instanceMethod ({ cls := "EchoFairModel", name := "partsOf", desc := "(II)V" } : Jvm.MethodName)) ∈ lw_all := lw_g (lw_at lw_m17 70 rfl) rfl
theorem q4073 : (Jvm.Cond.code ({ cls := "EchoFairModel", name := "partsOf", desc := "(II)V" } : Jvm.MethodName) prog_12_method_84_code (3 : Nat) (Option.none : Option Jvm.ClassFile.FieldType)) ∈ lw_all := lw_g (lw_at lw_m17 71 rfl) rfl
theorem q4074 : (Jvm.Cond.methodLink "EchoFairModel" (379 : Nat) ({ cls := "EchoFairModel", name := "keeps", desc := "([I)V" } : Jvm.MethodName)) ∈ lw_all := lw_g (lw_at lw_m17 72 rfl) rfl
theorem q4075 : (Jvm.Cond.privateMethod ({ cls := "EchoFairModel", name := "keeps", desc := "([I)V" } : Jvm.MethodName)) ∈ lw_tbl := lw_at lw_m17 73 rfl
theorem q4076 : (Jvm.Cond.instanceMethod ({ cls := "EchoFairModel", name := "keeps", desc := "([I)V" } : Jvm.MethodName)) ∈ lw_all := lw_g (lw_at lw_m17 74 rfl) rfl
theorem q4077 : (Jvm.Cond.code ({ cls := "EchoFairModel", name := "keeps", desc := "([I)V" } : Jvm.MethodName) prog_12_method_87_code (3 : Nat) (Option.none : Option Jvm.ClassFile.FieldType)) ∈ lw_all := lw_g (lw_at lw_m17 75 rfl) rfl
theorem q4078 : (Jvm.Cond.methodLink "EchoFairModel" (383 : Nat) ({ cls := "EchoFairModel", name := "doesOne", desc := "(I)Z" } : Jvm.MethodName)) ∈ lw_all := lw_g (lw_at lw_m17 76 rfl) rfl
theorem q4079 : (Jvm.Cond.privateMethod ({ cls := "EchoFairModel", name := "doesOne", desc := "(I)Z" } : Jvm.MethodName)) ∈ lw_tbl := lw_at lw_m17 77 rfl
theorem q4080 : (Jvm.Cond.instanceMethod ({ cls := "EchoFairModel", name := "doesOne", desc := "(I)Z" } : Jvm.MethodName)) ∈ lw_all := lw_g (lw_at lw_m17 78 rfl) rfl
theorem q4081 : (Jvm.Cond.code ({ cls := "EchoFairModel", name := "doesOne", desc := "(I)Z" } : Jvm.MethodName) prog_12_method_86_code (4 : Nat) (Option.some Jvm.ClassFile.FieldType.boolean)) ∈ lw_all := lw_g (lw_at lw_m17 79 rfl) rfl
theorem q4082 : (Jvm.Cond.methodLink "EchoFairModel" (355 : Nat) ({ cls := "EchoFairModel", name := "passNow", desc := "(I)Z" } : Jvm.MethodName)) ∈ lw_all := lw_g (lw_at lw_m17 80 rfl) rfl
theorem q4083 : (Jvm.Cond.privateMethod ({ cls := "EchoFairModel", name := "passNow", desc := "(I)Z" } : Jvm.MethodName)) ∈ lw_tbl := lw_at lw_m17 81 rfl
theorem q4084 : (Jvm.Cond.instanceMethod ({ cls := "EchoFairModel", name := "passNow", desc := "(I)Z" } : Jvm.MethodName)) ∈ lw_all := lw_g (lw_at lw_m17 82 rfl) rfl
theorem q4085 : (Jvm.Cond.code ({ cls := "EchoFairModel", name := "passNow", desc := "(I)Z" } : Jvm.MethodName) prog_12_method_45_code (3 : Nat) (Option.some Jvm.ClassFile.FieldType.boolean)) ∈ lw_all := lw_g (lw_at lw_m17 83 rfl) rfl
theorem q4086 : (Jvm.Cond.methodLink "EchoFairModel" (195 : Nat) ({ cls := "EchoFairModel", name := "allLeft", desc := "()I" } : Jvm.MethodName)) ∈ lw_all := lw_g (lw_at lw_m17 84 rfl) rfl
theorem q4087 : (Jvm.Cond.privateMethod ({ cls := "EchoFairModel", name := "allLeft", desc := "()I" } : Jvm.MethodName)) ∈ lw_tbl := lw_at lw_m17 85 rfl
theorem q4088 : (Jvm.Cond.instanceMethod ({ cls := "EchoFairModel", name := "allLeft", desc := "()I" } : Jvm.MethodName)) ∈ lw_all := lw_g (lw_at lw_m17 86 rfl) rfl
theorem q4089 : (Jvm.Cond.code ({ cls := "EchoFairModel", name := "allLeft", desc := "()I" } : Jvm.MethodName) prog_12_method_44_code (3 : Nat) (Option.some Jvm.ClassFile.FieldType.int)) ∈ lw_all := lw_g (lw_at lw_m17 87 rfl) rfl
theorem q4090 : (Jvm.Cond.methodLink "EchoFairModel" (86 : Nat) ({ cls := "EchoFairModel", name := "of", desc := "(II)I" } : Jvm.MethodName)) ∈ lw_all := lw_g (lw_at lw_m17 88 rfl) rfl
theorem q4091 : (Jvm.Cond.privateMethod ({ cls := "EchoFairModel", name := "of", desc := "(II)I" } : Jvm.MethodName)) ∈ lw_tbl := lw_at lw_m17 89 rfl
theorem q4092 : (Jvm.Cond.instanceMethod ({ cls := "EchoFairModel", name := "of", desc := "(II)I" } : Jvm.MethodName)) ∈ lw_all := lw_g (lw_at lw_m17 90 rfl) rfl
theorem q4093 : (Jvm.Cond.code ({ cls := "EchoFairModel", name := "of", desc := "(II)I" } : Jvm.MethodName) prog_12_method_10_code (3 : Nat) (Option.some Jvm.ClassFile.FieldType.int)) ∈ lw_all := lw_g (lw_at lw_m17 91 rfl) rfl
theorem q4094 : (Jvm.Cond.methodLink "EchoFairModel" (198 : Nat) ({ cls := "EchoFairModel", name := "goBy", desc := "(I)V" } : Jvm.MethodName)) ∈ lw_all := lw_g (lw_at lw_m17 92 rfl) rfl
theorem q4095 : (Jvm.Cond.privateMethod ({ cls := "EchoFairModel", name := "goBy", desc := "(I)V" } : Jvm.MethodName)) ∈ lw_tbl := lw_at lw_m17 93 rfl
theorem q4096 : (Jvm.Cond.instanceMethod ({ cls := "EchoFairModel", name := "goBy", desc := "(I)V" } : Jvm.MethodName)) ∈ lw_all := lw_g (lw_at lw_m17 94 rfl) rfl
theorem q4097 : (Jvm.Cond.code ({ cls := "EchoFairModel", name := "goBy", desc := "(I)V" } : Jvm.MethodName) prog_12_method_43_code (3 : Nat) (Option.none : Option Jvm.ClassFile.FieldType)) ∈ lw_all := lw_g (lw_at lw_m17 95 rfl) rfl
theorem q4098 : (Jvm.Cond.methodLink "EchoFairModel" (192 : Nat) ({ cls := "EchoFairModel", name := "dayOnce", desc := "()V" } : Jvm.MethodName)) ∈ lw_all := lw_g (lw_at lw_m17 96 rfl) rfl
theorem q4099 : (Jvm.Cond.privateMethod ({ cls := "EchoFairModel", name := "dayOnce", desc := "()V" } : Jvm.MethodName)) ∈ lw_tbl := lw_at lw_m17 97 rfl
theorem q4100 : (Jvm.Cond.instanceMethod ({ cls := "EchoFairModel", name := "dayOnce", desc := "()V" } : Jvm.MethodName)) ∈ lw_all := lw_g (lw_at lw_m17 98 rfl) rfl
theorem q4101 : (Jvm.Cond.code ({ cls := "EchoFairModel", name := "dayOnce", desc := "()V" } : Jvm.MethodName) prog_12_method_42_code (3 : Nat) (Option.none : Option Jvm.ClassFile.FieldType)) ∈ lw_all := lw_g (lw_at lw_m17 99 rfl) rfl
theorem q4102 : (Jvm.Cond.methodLink "EchoFairModel" (180 : Nat) ({ cls := "EchoFairModel", name := "beginsSeason", desc := "()V" } : Jvm.MethodName)) ∈ lw_all := lw_g (lw_at lw_m17 100 rfl) rfl
theorem q4103 : (Jvm.Cond.privateMethod ({ cls := "EchoFairModel", name := "beginsSeason", desc := "()V" } : Jvm.MethodName)) ∈ lw_tbl := lw_at lw_m17 101 rfl
theorem q4104 : (Jvm.Cond.instanceMethod ({ cls := "EchoFairModel", name := "beginsSeason", desc := "()V" } : Jvm.MethodName)) ∈ lw_all := lw_g (lw_at lw_m17 102 rfl) rfl
theorem q4105 : (Jvm.Cond.code ({ cls := "EchoFairModel", name := "beginsSeason", desc := "()V" } : Jvm.MethodName) prog_12_method_38_code (3 : Nat) (Option.none : Option Jvm.ClassFile.FieldType)) ∈ lw_all := lw_g (lw_at lw_m17 103 rfl) rfl
theorem q4106 : (Jvm.Cond.methodLink "EchoFairModel" (149 : Nat) ({ cls := "EchoFairModel", name := "hasContract", desc := "(I)Z" } : Jvm.MethodName)) ∈ lw_all := lw_g (lw_at lw_m17 104 rfl) rfl
theorem q4107 : (Jvm.Cond.privateMethod ({ cls := "EchoFairModel", name := "hasContract", desc := "(I)Z" } : Jvm.MethodName)) ∈ lw_tbl := lw_at lw_m17 105 rfl
theorem q4108 : (Jvm.Cond.instanceMethod ({ cls := "EchoFairModel", name := "hasContract", desc := "(I)Z" } : Jvm.MethodName)) ∈ lw_all := lw_g (lw_at lw_m17 106 rfl) rfl
theorem q4109 : (Jvm.Cond.code ({ cls := "EchoFairModel", name := "hasContract", desc := "(I)Z" } : Jvm.MethodName) prog_12_method_19_code (2 : Nat) (Option.some Jvm.ClassFile.FieldType.boolean)) ∈ lw_all := lw_g (lw_at lw_m17 107 rfl) rfl
theorem q4110 : (Jvm.Cond.methodLink "EchoFairModel" (171 : Nat) ({ cls := "EchoFairModel", name := "contractEnds", desc := "(I)V" } : Jvm.MethodName)) ∈ lw_all := lw_g (lw_at lw_m17 108 rfl) rfl
theorem q4111 : (Jvm.Cond.privateMethod ({ cls := "EchoFairModel", name := "contractEnds", desc := "(I)V" } : Jvm.MethodName)) ∈ lw_tbl := lw_at lw_m17 109 rfl
theorem q4112 : (Jvm.Cond.instanceMethod ({ cls := "EchoFairModel", name := "contractEnds", desc := "(I)V" } : Jvm.MethodName)) ∈ lw_all := lw_g (lw_at lw_m17 110 rfl) rfl
theorem q4113 : (Jvm.Cond.code ({ cls := "EchoFairModel", name := "contractEnds", desc := "(I)V" } : Jvm.MethodName) prog_12_method_29_code (6 : Nat) (Option.none : Option Jvm.ClassFile.FieldType)) ∈ lw_all := lw_g (lw_at lw_m17 111 rfl) rfl
theorem q4114 : (Jvm.Cond.methodLink "EchoFairModel" (119 : Nat) ({ cls := "EchoFairModel", name := "employer", desc := "(I)I" } : Jvm.MethodName)) ∈ lw_all := lw_g (lw_at lw_m17 112 rfl) rfl
theorem q4115 : (Jvm.Cond.privateMethod ({ cls := "EchoFairModel", name := "employer", desc := "(I)I" } : Jvm.MethodName)) ∈ lw_tbl := lw_at lw_m17 113 rfl
theorem q4116 : (Jvm.Cond.instanceMethod ({ cls := "EchoFairModel", name := "employer", desc := "(I)I" } : Jvm.MethodName)) ∈ lw_all := lw_g (lw_at lw_m17 114 rfl) rfl
theorem q4117 : (Jvm.Cond.code ({ cls := "EchoFairModel", name := "employer", desc := "(I)I" } : Jvm.MethodName) prog_12_method_18_code (2 : Nat) (Option.some Jvm.ClassFile.FieldType.int)) ∈ lw_all := lw_g (lw_at lw_m17 115 rfl) rfl
theorem q4118 : (Jvm.Cond.methodLink "EchoFairModel" (90 : Nat) ({ cls := "EchoFairModel", name := "ofValley", desc := "(II)I" } : Jvm.MethodName)) ∈ lw_all := lw_g (lw_at lw_m17 116 rfl) rfl
theorem q4119 : (Jvm.Cond.privateMethod ({ cls := "EchoFairModel", name := "ofValley", desc := "(II)I" } : Jvm.MethodName)) ∈ lw_tbl := lw_at lw_m17 117 rfl
theorem q4120 : (Jvm.Cond.instanceMethod ({ cls := "EchoFairModel", name := "ofValley", desc := "(II)I" } : Jvm.MethodName)) ∈ lw_all := lw_g (lw_at lw_m17 118 rfl) rfl
theorem q4121 : (Jvm.Cond.code ({ cls := "EchoFairModel", name := "ofValley", desc := "(II)I" } : Jvm.MethodName) prog_12_method_12_code (3 : Nat) (Option.some Jvm.ClassFile.FieldType.int)) ∈ lw_all := lw_g (lw_at lw_m17 119 rfl) rfl
theorem q4122 : (Jvm.Cond.methodLink "EchoFairModel" (174 : Nat) ({ cls := "EchoFairModel", name := "fairNow", desc := "()V" } : Jvm.MethodName)) ∈ lw_all := lw_g (lw_at lw_m17 120 rfl) rfl
theorem q4123 : (Jvm.Cond.privateMethod ({ cls := "EchoFairModel", name := "fairNow", desc := "()V" } : Jvm.MethodName)) ∈ lw_tbl := lw_at lw_m17 121 rfl
theorem q4124 : (Jvm.Cond.instanceMethod ({ cls := "EchoFairModel", name := "fairNow", desc := "()V" } : Jvm.MethodName)) ∈ lw_all := lw_g (lw_at lw_m17 122 rfl) rfl
theorem q4125 : (Jvm.Cond.code ({ cls := "EchoFairModel", name := "fairNow", desc := "()V" } : Jvm.MethodName) prog_12_method_37_code (3 : Nat) (Option.none : Option Jvm.ClassFile.FieldType)) ∈ lw_all := lw_g (lw_at lw_m17 123 rfl) rfl
theorem q4126 : (Jvm.Cond.methodLink "EchoFairModel" (152 : Nat) ({ cls := "EchoFairModel", name := "startsFair", desc := "()V" } : Jvm.MethodName)) ∈ lw_all := lw_g (lw_at lw_m17 124 rfl) rfl
theorem q4127 : (Jvm.Cond.privateMethod ({ cls := "EchoFairModel", name := "startsFair", desc := "()V" } : Jvm.MethodName)) ∈ lw_tbl := lw_at lw_m17 125 rfl
theorem q4128 : (Jvm.Cond.instanceMethod ({ cls := "EchoFairModel", name := "startsFair", desc := "()V" } : Jvm.MethodName)) ∈ lw_all := lw_g (lw_at lw_m17 126 rfl) rfl
theorem q4129 : (Jvm.Cond.code ({ cls := "EchoFairModel", name := "startsFair", desc := "()V" } : Jvm.MethodName) prog_12_method_35_code (2 : Nat) (Option.none : Option Jvm.ClassFile.FieldType)) ∈ lw_all := lw_g (lw_at lw_m17 127 rfl) rfl
theorem q4130 : (Jvm.Cond.methodLink "EchoFairModel" (142 : Nat) ({ cls := "EchoFairModel", name := "enqueues", desc := "(I)V" } : Jvm.MethodName)) ∈ lw_all := lw_g (lw_at lw_m17 128 rfl) rfl
theorem q4131 : (Jvm.Cond.privateMethod ({ cls := "EchoFairModel", name := "enqueues", desc := "(I)V" } : Jvm.MethodName)) ∈ lw_tbl := lw_at lw_m17 129 rfl
theorem q4132 : (Jvm.Cond.instanceMethod ({ cls := "EchoFairModel", name := "enqueues", desc := "(I)V" } : Jvm.MethodName)) ∈ lw_all := lw_g (lw_at lw_m17 130 rfl) rfl
theorem q4133 : (Jvm.Cond.code ({ cls := "EchoFairModel", name := "enqueues", desc := "(I)V" } : Jvm.MethodName) prog_12_method_30_code (2 : Nat) (Option.none : Option Jvm.ClassFile.FieldType)) ∈ lw_all := lw_g (lw_at lw_m17 131 rfl) rfl
theorem q4134 : (Jvm.Cond.methodLink "EchoFairModel" (155 : Nat) ({ cls := "EchoFairModel", name := "dequeues", desc := "()I" } : Jvm.MethodName)) ∈ lw_all := lw_g (lw_at lw_m17 132 rfl) rfl
theorem q4135 : (Jvm.Cond.privateMethod ({ cls := "EchoFairModel", name := "dequeues", desc := "()I" } : Jvm.MethodName)) ∈ lw_tbl := lw_at lw_m17 133 rfl
theorem q4136 : (Jvm.Cond.instanceMethod ({ cls := "EchoFairModel", name := "dequeues", desc := "()I" } : Jvm.MethodName)) ∈ lw_all := lw_g (lw_at lw_m17 134 rfl) rfl
theorem q4137 : (Jvm.Cond.code ({ cls := "EchoFairModel", name := "dequeues", desc := "()I" } : Jvm.MethodName) prog_12_method_31_code (2 : Nat) (Option.some Jvm.ClassFile.FieldType.int)) ∈ lw_all := lw_g (lw_at lw_m17 135 rfl) rfl
theorem q4138 : (Jvm.Cond.methodLink "EchoFairModel" (158 : Nat) ({ cls := "EchoFairModel", name := "nextValley", desc := "(I)I" } : Jvm.MethodName)) ∈ lw_all := lw_g (lw_at lw_m17 136 rfl) rfl
theorem q4139 : (Jvm.Cond.privateMethod ({ cls := "EchoFairModel", name := "nextValley", desc := "(I)I" } : Jvm.MethodName)) ∈ lw_tbl := lw_at lw_m17 137 rfl
theorem q4140 : (Jvm.Cond.instanceMethod ({ cls := "EchoFairModel", name := "nextValley", desc := "(I)I" } : Jvm.MethodName)) ∈ lw_all := lw_g (lw_at lw_m17 138 rfl) rfl
theorem q4141 : (Jvm.Cond.code ({ cls := "EchoFairModel", name := "nextValley", desc := "(I)I" } : Jvm.MethodName) prog_12_method_32_code (4 : Nat) (Option.some Jvm.ClassFile.FieldType.int)) ∈ lw_all := lw_g (lw_at lw_m17 139 rfl) rfl
theorem q4142 : (Jvm.Cond.methodLink "EchoFairModel" (128 : Nat) ({ cls := "EchoFairModel", name := "isAcceptable", desc := "(II)Z" } : Jvm.MethodName)) ∈ lw_all := lw_g (lw_at lw_m17 140 rfl) rfl
theorem q4143 : (Jvm.Cond.privateMethod ({ cls := "EchoFairModel", name := "isAcceptable", desc := "(II)Z" } : Jvm.MethodName)) ∈ lw_tbl := lw_at lw_m17 141 rfl
theorem q4144 : (Jvm.Cond.instanceMethod ({ cls := "EchoFairModel", name := "isAcceptable", desc := "(II)Z" } : Jvm.MethodName)) ∈ lw_all := lw_g (lw_at lw_m17 142 rfl) rfl
theorem q4145 : (Jvm.Cond.code ({ cls := "EchoFairModel", name := "isAcceptable", desc := "(II)Z" } : Jvm.MethodName) prog_12_method_25_code (3 : Nat) (Option.some Jvm.ClassFile.FieldType.boolean)) ∈ lw_all := lw_g (lw_at lw_m17 143 rfl) rfl
theorem q4146 : (Jvm.Cond.methodLink "EchoFairModel" (109 : Nat) ({ cls := "EchoFairModel", name := "reasonOf", desc := "(II)I" } : Jvm.MethodName)) ∈ lw_all := lw_g (lw_at lw_m17 144 rfl) rfl
theorem q4147 : (Jvm.Cond.privateMethod ({ cls := "EchoFairModel", name := "reasonOf", desc := "(II)I" } : Jvm.MethodName)) ∈ lw_tbl := lw_at lw_m17 145 rfl
theorem q4148 : (Jvm.Cond.instanceMethod ({ cls := "EchoFairModel", name := "reasonOf", desc := "(II)I" } : Jvm.MethodName)) ∈ lw_all := lw_g (lw_at lw_m17 146 rfl) rfl
theorem q4149 : (Jvm.Cond.code ({ cls := "EchoFairModel", name := "reasonOf", desc := "(II)I" } : Jvm.MethodName) prog_12_method_24_code (3 : Nat) (Option.some Jvm.ClassFile.FieldType.int)) ∈ lw_all := lw_g (lw_at lw_m17 147 rfl) rfl
theorem q4150 : (Jvm.Cond.methodLink "EchoFairModel" (106 : Nat) ({ cls := "EchoFairModel", name := "seen", desc := "(II)I" } : Jvm.MethodName)) ∈ lw_all := lw_g (lw_at lw_m17 148 rfl) rfl
theorem q4151 : (Jvm.Cond.privateMethod ({ cls := "EchoFairModel", name := "seen", desc := "(II)I" } : Jvm.MethodName)) ∈ lw_tbl := lw_at lw_m17 149 rfl
theorem q4152 : (Jvm.Cond.instanceMethod ({ cls := "EchoFairModel", name := "seen", desc := "(II)I" } : Jvm.MethodName)) ∈ lw_all := lw_g (lw_at lw_m17 150 rfl) rfl
theorem q4153 : (Jvm.Cond.code ({ cls := "EchoFairModel", name := "seen", desc := "(II)I" } : Jvm.MethodName) prog_12_method_23_code (3 : Nat) (Option.some Jvm.ClassFile.FieldType.int)) ∈ lw_all := lw_g (lw_at lw_m17 151 rfl) rfl
theorem q4154 : (Jvm.Cond.methodLink "EchoFairModel" (103 : Nat) ({ cls := "EchoFairModel", name := "trueScore", desc := "(II)I" } : Jvm.MethodName)) ∈ lw_all := lw_g (lw_at lw_m17 152 rfl) rfl
theorem q4155 : (Jvm.Cond.privateMethod ({ cls := "EchoFairModel", name := "trueScore", desc := "(II)I" } : Jvm.MethodName)) ∈ lw_tbl := lw_at lw_m17 153 rfl
theorem q4156 : (Jvm.Cond.instanceMethod ({ cls := "EchoFairModel", name := "trueScore", desc := "(II)I" } : Jvm.MethodName)) ∈ lw_all := lw_g (lw_at lw_m17 154 rfl) rfl
theorem q4157 : (Jvm.Cond.code ({ cls := "EchoFairModel", name := "trueScore", desc := "(II)I" } : Jvm.MethodName) prog_12_method_22_code (3 : Nat) (Option.some Jvm.ClassFile.FieldType.int)) ∈ lw_all := lw_g (lw_at lw_m17 155 rfl) rfl
theorem q4158 : (Jvm.Cond.methodLink "EchoFairModel" (93 : Nat) ({ cls := "java/lang/Math", name := "abs", desc := "(I)I" } : Jvm.MethodName)) ∈ lw_all := lw_g (lw_at lw_m17 156 rfl) rfl
theorem q4159 : (Jvm.Cond.methodLink "EchoFairModel" (132 : Nat) ({ cls := "EchoFairModel", name := "isBetterValley", desc := "(II)Z" } : Jvm.MethodName)) ∈ lw_all := lw_g (lw_at lw_m17 157 rfl) rfl
theorem q4160 : (Jvm.Cond.privateMethod ({ cls := "EchoFairModel", name := "isBetterValley", desc := "(II)Z" } : Jvm.MethodName)) ∈ lw_tbl := lw_at lw_m17 158 rfl
theorem q4161 : (Jvm.Cond.instanceMethod ({ cls := "EchoFairModel", name := "isBetterValley", desc := "(II)Z" } : Jvm.MethodName)) ∈ lw_all := lw_g (lw_at lw_m17 159 rfl) rfl
theorem q4162 : (Jvm.Cond.code ({ cls := "EchoFairModel", name := "isBetterValley", desc := "(II)Z" } : Jvm.MethodName) prog_12_method_26_code (4 : Nat) (Option.some Jvm.ClassFile.FieldType.boolean)) ∈ lw_all := lw_g (lw_at lw_m17 160 rfl) rfl
theorem q4163 : (Jvm.Cond.methodLink "EchoFairModel" (161 : Nat) ({ cls := "EchoFairModel", name := "applies", desc := "(II)V" } : Jvm.MethodName)) ∈ lw_all := lw_g (lw_at lw_m17 161 rfl) rfl
theorem q4164 : (Jvm.Cond.privateMethod ({ cls := "EchoFairModel", name := "applies", desc := "(II)V" } : Jvm.MethodName)) ∈ lw_tbl := lw_at lw_m17 162 rfl
theorem q4165 : (Jvm.Cond.instanceMethod ({ cls := "EchoFairModel", name := "applies", desc := "(II)V" } : Jvm.MethodName)) ∈ lw_all := lw_g (lw_at lw_m17 163 rfl) rfl
theorem q4166 : (Jvm.Cond.code ({ cls := "EchoFairModel", name := "applies", desc := "(II)V" } : Jvm.MethodName) prog_12_method_34_code (5 : Nat) (Option.none : Option Jvm.ClassFile.FieldType)) ∈ lw_all := lw_g (lw_at lw_m17 164 rfl) rfl
theorem q4167 : (Jvm.Cond.methodLink "EchoFairModel" (139 : Nat) ({ cls := "EchoFairModel", name := "freePosts", desc := "(I)I" } : Jvm.MethodName)) ∈ lw_all := lw_g (lw_at lw_m17 165 rfl) rfl
theorem q4168 : (Jvm.Cond.privateMethod ({ cls := "EchoFairModel", name := "freePosts", desc := "(I)I" } : Jvm.MethodName)) ∈ lw_tbl := lw_at lw_m17 166 rfl
theorem q4169 : (Jvm.Cond.instanceMethod ({ cls := "EchoFairModel", name := "freePosts", desc := "(I)I" } : Jvm.MethodName)) ∈ lw_all := lw_g (lw_at lw_m17 167 rfl) rfl
theorem q4170 : (Jvm.Cond.code ({ cls := "EchoFairModel", name := "freePosts", desc := "(I)I" } : Jvm.MethodName) prog_12_method_20_code (2 : Nat) (Option.some Jvm.ClassFile.FieldType.int)) ∈ lw_all := lw_g (lw_at lw_m17 168 rfl) rfl
theorem q4171 : (Jvm.Cond.methodLink "EchoFairModel" (146 : Nat) ({ cls := "EchoFairModel", name := "leastKept", desc := "(I)I" } : Jvm.MethodName)) ∈ lw_all := lw_g (lw_at lw_m17 169 rfl) rfl
theorem q4172 : (Jvm.Cond.privateMethod ({ cls := "EchoFairModel", name := "leastKept", desc := "(I)I" } : Jvm.MethodName)) ∈ lw_tbl := lw_at lw_m17 170 rfl
theorem q4173 : (Jvm.Cond.instanceMethod ({ cls := "EchoFairModel", name := "leastKept", desc := "(I)I" } : Jvm.MethodName)) ∈ lw_all := lw_g (lw_at lw_m17 171 rfl) rfl
theorem q4174 : (Jvm.Cond.code ({ cls := "EchoFairModel", name := "leastKept", desc := "(I)I" } : Jvm.MethodName) prog_12_method_33_code (4 : Nat) (Option.some Jvm.ClassFile.FieldType.int)) ∈ lw_all := lw_g (lw_at lw_m17 172 rfl) rfl
theorem q4175 : (Jvm.Cond.methodLink "EchoFairModel" (135 : Nat) ({ cls := "EchoFairModel", name := "isBetterEcho", desc := "(III)Z" } : Jvm.MethodName)) ∈ lw_all := lw_g (lw_at lw_m17 173 rfl) rfl
theorem q4176 : (Jvm.Cond.privateMethod ({ cls := "EchoFairModel", name := "isBetterEcho", desc := "(III)Z" } : Jvm.MethodName)) ∈ lw_tbl := lw_at lw_m17 174 rfl
theorem q4177 : (Jvm.Cond.instanceMethod ({ cls := "EchoFairModel", name := "isBetterEcho", desc := "(III)Z" } : Jvm.MethodName)) ∈ lw_all := lw_g (lw_at lw_m17 175 rfl) rfl
theorem q4178 : (Jvm.Cond.code ({ cls := "EchoFairModel", name := "isBetterEcho", desc := "(III)Z" } : Jvm.MethodName) prog_12_method_27_code (5 : Nat) (Option.some Jvm.ClassFile.FieldType.boolean)) ∈ lw_all := lw_g (lw_at lw_m17 176 rfl) rfl
theorem q4179 : (Jvm.Cond.methodLink "EchoFairModel" (165 : Nat) ({ cls := "EchoFairModel", name := "isKept", desc := "(II)Z" } : Jvm.MethodName)) ∈ lw_all := lw_g (lw_at lw_m17 177 rfl) rfl
theorem q4180 : (Jvm.Cond.privateMethod ({ cls := "EchoFairModel", name := "isKept", desc := "(II)Z" } : Jvm.MethodName)) ∈ lw_tbl := lw_at lw_m17 178 rfl
theorem q4181 : (Jvm.Cond.instanceMethod ({ cls := "EchoFairModel", name := "isKept", desc := "(II)Z" } : Jvm.MethodName)) ∈ lw_all := lw_g (lw_at lw_m17 179 rfl) rfl
theorem q4182 : (Jvm.Cond.code ({ cls := "EchoFairModel", name := "isKept", desc := "(II)Z" } : Jvm.MethodName) prog_12_method_36_code (4 : Nat) (Option.some Jvm.ClassFile.FieldType.boolean)) ∈ lw_all := lw_g (lw_at lw_m17 180 rfl) rfl
theorem q4183 : (Jvm.Cond.methodLink "EchoFairModel" (168 : Nat) ({ cls := "EchoFairModel", name := "contractComes", desc := "(II)V" } : Jvm.MethodName)) ∈ lw_all := lw_g (lw_at lw_m17 181 rfl) rfl
theorem q4184 : (Jvm.Cond.privateMethod ({ cls := "EchoFairModel", name := "contractComes", desc := "(II)V" } : Jvm.MethodName)) ∈ lw_tbl := lw_at lw_m17 182 rfl
theorem q4185 : (Jvm.Cond.instanceMethod ({ cls := "EchoFairModel", name := "contractComes", desc := "(II)V" } : Jvm.MethodName)) ∈ lw_all := lw_g (lw_at lw_m17 183 rfl) rfl
theorem q4186 : (Jvm.Cond.code ({ cls := "EchoFairModel", name := "contractComes", desc := "(II)V" } : Jvm.MethodName) prog_12_method_28_code (4 : Nat) (Option.none : Option Jvm.ClassFile.FieldType)) ∈ lw_all := lw_g (lw_at lw_m17 184 rfl) rfl
theorem q4187 : (Jvm.Cond.methodLink "EchoFairModel" (183 : Nat) ({ cls := "EchoFairModel", name := "earns", desc := "(I)V" } : Jvm.MethodName)) ∈ lw_all := lw_g (lw_at lw_m17 185 rfl) rfl
theorem q4188 : (Jvm.Cond.privateMethod ({ cls := "EchoFairModel", name := "earns", desc := "(I)V" } : Jvm.MethodName)) ∈ lw_tbl := lw_at lw_m17 186 rfl
theorem q4189 : (Jvm.Cond.instanceMethod ({ cls := "EchoFairModel", name := "earns", desc := "(I)V" } : Jvm.MethodName)) ∈ lw_all := lw_g (lw_at lw_m17 187 rfl) rfl
theorem q4190 : (Jvm.Cond.code ({ cls := "EchoFairModel", name := "earns", desc := "(I)V" } : Jvm.MethodName) prog_12_method_39_code (5 : Nat) (Option.none : Option Jvm.ClassFile.FieldType)) ∈ lw_all := lw_g (lw_at lw_m17 188 rfl) rfl
theorem q4191 : (Jvm.Cond.methodLink "EchoFairModel" (186 : Nat) ({ cls := "EchoFairModel", name := "pays", desc := "(II)V" } : Jvm.MethodName)) ∈ lw_all := lw_g (lw_at lw_m17 189 rfl) rfl
theorem q4192 : (Jvm.Cond.privateMethod ({ cls := "EchoFairModel", name := "pays", desc := "(II)V" } : Jvm.MethodName)) ∈ lw_tbl := lw_at lw_m17 190 rfl
theorem q4193 : (Jvm.Cond.instanceMethod ({ cls := "EchoFairModel", name := "pays", desc := "(II)V" } : Jvm.MethodName)) ∈ lw_all := lw_g (lw_at lw_m17 191 rfl) rfl
theorem q4194 : (Jvm.Cond.code ({ cls := "EchoFairModel", name := "pays", desc := "(II)V" } : Jvm.MethodName) prog_12_method_40_code (4 : Nat) (Option.none : Option Jvm.ClassFile.FieldType)) ∈ lw_all := lw_g (lw_at lw_m17 192 rfl) rfl
theorem q4195 : (Jvm.Cond.methodLink "EchoFairModel" (189 : Nat) ({ cls := "EchoFairModel", name := "mayDesert", desc := "(I)V" } : Jvm.MethodName)) ∈ lw_all := lw_g (lw_at lw_m17 193 rfl) rfl
theorem q4196 : (Jvm.Cond.privateMethod ({ cls := "EchoFairModel", name := "mayDesert", desc := "(I)V" } : Jvm.MethodName)) ∈ lw_tbl := lw_at lw_m17 194 rfl
theorem q4197 : (Jvm.Cond.instanceMethod ({ cls := "EchoFairModel", name := "mayDesert", desc := "(I)V" } : Jvm.MethodName)) ∈ lw_all := lw_g (lw_at lw_m17 195 rfl) rfl
theorem q4198 : (Jvm.Cond.code ({ cls := "EchoFairModel", name := "mayDesert", desc := "(I)V" } : Jvm.MethodName) prog_12_method_41_code (3 : Nat) (Option.none : Option Jvm.ClassFile.FieldType)) ∈ lw_all := lw_g (lw_at lw_m17 196 rfl) rfl
theorem q4199 : (Jvm.Cond.methodLink "EchoFairModel" (177 : Nat) ({ cls := "EchoFairModel", name := "fogNow", desc := "(I)I" } : Jvm.MethodName)) ∈ lw_all := lw_g (lw_at lw_m17 197 rfl) rfl
theorem q4200 : (Jvm.Cond.privateMethod ({ cls := "EchoFairModel", name := "fogNow", desc := "(I)I" } : Jvm.MethodName)) ∈ lw_tbl := lw_at lw_m17 198 rfl
theorem q4201 : (Jvm.Cond.instanceMethod ({ cls := "EchoFairModel", name := "fogNow", desc := "(I)I" } : Jvm.MethodName)) ∈ lw_all := lw_g (lw_at lw_m17 199 rfl) rfl
theorem q4202 : (Jvm.Cond.code ({ cls := "EchoFairModel", name := "fogNow", desc := "(I)I" } : Jvm.MethodName) prog_12_method_21_code (2 : Nat) (Option.some Jvm.ClassFile.FieldType.int)) ∈ lw_all := lw_g (lw_at lw_m17 200 rfl) rfl
theorem q4203 : (Jvm.Cond.methodLink "EchoFairModel" (358 : Nat) ({ cls := "EchoFairModel", name := "holdNow", desc := "()Z" } : Jvm.MethodName)) ∈ lw_all := lw_g (lw_at lw_m17 201 rfl) rfl
theorem q4204 : (Jvm.Cond.privateMethod ({ cls := "EchoFairModel", name := "holdNow", desc := "()Z" } : Jvm.MethodName)) ∈ lw_tbl := lw_at lw_m17 202 rfl
theorem q4205 : (Jvm.Cond.instanceMethod ({ cls := "EchoFairModel", name := "holdNow", desc := "()Z" } : Jvm.MethodName)) ∈ lw_all := lw_g (lw_at lw_m17 203 rfl) rfl
theorem q4206 : (Jvm.Cond.code ({ cls := "EchoFairModel", name := "holdNow", desc := "()Z" } : Jvm.MethodName) prog_12_method_46_code (2 : Nat) (Option.some Jvm.ClassFile.FieldType.boolean)) ∈ lw_all := lw_g (lw_at lw_m17 204 rfl) rfl
theorem q4207 : (Jvm.Cond.methodLink "EchoFairModel" (361 : Nat) ({ cls := "EchoFairModel", name := "testNow", desc := "(II)Z" } : Jvm.MethodName)) ∈ lw_all := lw_g (lw_at lw_m17 205 rfl) rfl
theorem q4208 : (Jvm.Cond.privateMethod ({ cls := "EchoFairModel", name := "testNow", desc := "(II)Z" } : Jvm.MethodName)) ∈ lw_tbl := lw_at lw_m17 206 rfl
theorem q4209 : (Jvm.Cond.instanceMethod ({ cls := "EchoFairModel", name := "testNow", desc := "(II)Z" } : Jvm.MethodName)) ∈ lw_all := lw_g (lw_at lw_m17 207 rfl) rfl
theorem q4210 : (Jvm.Cond.code ({ cls := "EchoFairModel", name := "testNow", desc := "(II)Z" } : Jvm.MethodName) prog_12_method_48_code (3 : Nat) (Option.some Jvm.ClassFile.FieldType.boolean)) ∈ lw_all := lw_g (lw_at lw_m17 208 rfl) rfl
theorem q4211 : (Jvm.Cond.methodLink "EchoFairModel" (204 : Nat) ({ cls := "EchoFairModel", name := "canTest", desc := "(II)Z" } : Jvm.MethodName)) ∈ lw_all := lw_g (lw_at lw_m17 209 rfl) rfl
theorem q4212 : (Jvm.Cond.privateMethod ({ cls := "EchoFairModel", name := "canTest", desc := "(II)Z" } : Jvm.MethodName)) ∈ lw_tbl := lw_at lw_m17 210 rfl
theorem q4213 : (Jvm.Cond.instanceMethod ({ cls := "EchoFairModel", name := "canTest", desc := "(II)Z" } : Jvm.MethodName)) ∈ lw_all := lw_g (lw_at lw_m17 211 rfl) rfl
theorem q4214 : (Jvm.Cond.code ({ cls := "EchoFairModel", name := "canTest", desc := "(II)Z" } : Jvm.MethodName) prog_12_method_47_code (3 : Nat) (Option.some Jvm.ClassFile.FieldType.boolean)) ∈ lw_all := lw_g (lw_at lw_m17 212 rfl) rfl
theorem q4215 : (Jvm.Cond.methodLink "EchoFairModel" (364 : Nat) ({ cls := "EchoFairModel", name := "dismissNow", desc := "(I)Z" } : Jvm.MethodName)) ∈ lw_all := lw_g (lw_at lw_m17 213 rfl) rfl
theorem q4216 : (Jvm.Cond.privateMethod ({ cls := "EchoFairModel", name := "dismissNow", desc := "(I)Z" } : Jvm.MethodName)) ∈ lw_tbl := lw_at lw_m17 214 rfl
theorem q4217 : (Jvm.Cond.instanceMethod ({ cls := "EchoFairModel", name := "dismissNow", desc := "(I)Z" } : Jvm.MethodName)) ∈ lw_all := lw_g (lw_at lw_m17 215 rfl) rfl
theorem q4218 : (Jvm.Cond.code ({ cls := "EchoFairModel", name := "dismissNow", desc := "(I)Z" } : Jvm.MethodName) prog_12_method_49_code (2 : Nat) (Option.some Jvm.ClassFile.FieldType.boolean)) ∈ lw_all := lw_g (lw_at lw_m17 216 rfl) rfl
theorem q4219 : (Jvm.Cond.methodLink "EchoFairModel" (367 : Nat) ({ cls := "EchoFairModel", name := "wageNow", desc := "(II)Z" } : Jvm.MethodName)) ∈ lw_all := lw_g (lw_at lw_m17 217 rfl) rfl
theorem q4220 : (Jvm.Cond.privateMethod ({ cls := "EchoFairModel", name := "wageNow", desc := "(II)Z" } : Jvm.MethodName)) ∈ lw_tbl := lw_at lw_m17 218 rfl
theorem q4221 : (Jvm.Cond.instanceMethod ({ cls := "EchoFairModel", name := "wageNow", desc := "(II)Z" } : Jvm.MethodName)) ∈ lw_all := lw_g (lw_at lw_m17 219 rfl) rfl
theorem q4222 : (Jvm.Cond.code ({ cls := "EchoFairModel", name := "wageNow", desc := "(II)Z" } : Jvm.MethodName) prog_12_method_50_code (3 : Nat) (Option.some Jvm.ClassFile.FieldType.boolean)) ∈ lw_all := lw_g (lw_at lw_m17 220 rfl) rfl
theorem q4223 : (Jvm.Cond.methodLink "EchoFairModel" (370 : Nat) ({ cls := "EchoFairModel", name := "fundNow", desc := "(II)Z" } : Jvm.MethodName)) ∈ lw_all := lw_g (lw_at lw_m17 221 rfl) rfl
theorem q4224 : (Jvm.Cond.privateMethod ({ cls := "EchoFairModel", name := "fundNow", desc := "(II)Z" } : Jvm.MethodName)) ∈ lw_tbl := lw_at lw_m17 222 rfl
theorem q4225 : (Jvm.Cond.instanceMethod ({ cls := "EchoFairModel", name := "fundNow", desc := "(II)Z" } : Jvm.MethodName)) ∈ lw_all := lw_g (lw_at lw_m17 223 rfl) rfl
theorem q4226 : (Jvm.Cond.code ({ cls := "EchoFairModel", name := "fundNow", desc := "(II)Z" } : Jvm.MethodName) prog_12_method_51_code (3 : Nat) (Option.some Jvm.ClassFile.FieldType.boolean)) ∈ lw_all := lw_g (lw_at lw_m17 224 rfl) rfl
theorem q4227 : (Jvm.Cond.methodLink "EchoFairModel" (373 : Nat) ({ cls := "EchoFairModel", name := "trainNow", desc := "(I)Z" } : Jvm.MethodName)) ∈ lw_all := lw_g (lw_at lw_m17 225 rfl) rfl
theorem q4228 : (Jvm.Cond.privateMethod ({ cls := "EchoFairModel", name := "trainNow", desc := "(I)Z" } : Jvm.MethodName)) ∈ lw_tbl := lw_at lw_m17 226 rfl
theorem q4229 : (Jvm.Cond.instanceMethod ({ cls := "EchoFairModel", name := "trainNow", desc := "(I)Z" } : Jvm.MethodName)) ∈ lw_all := lw_g (lw_at lw_m17 227 rfl) rfl
theorem q4230 : (Jvm.Cond.code ({ cls := "EchoFairModel", name := "trainNow", desc := "(I)Z" } : Jvm.MethodName) prog_12_method_53_code (3 : Nat) (Option.some Jvm.ClassFile.FieldType.boolean)) ∈ lw_all := lw_g (lw_at lw_m17 228 rfl) rfl
theorem q4231 : (Jvm.Cond.methodLink "EchoFairModel" (207 : Nat) ({ cls := "EchoFairModel", name := "canTrain", desc := "(I)Z" } : Jvm.MethodName)) ∈ lw_all := lw_g (lw_at lw_m17 229 rfl) rfl
theorem q4232 : (Jvm.Cond.privateMethod ({ cls := "EchoFairModel", name := "canTrain", desc := "(I)Z" } : Jvm.MethodName)) ∈ lw_tbl := lw_at lw_m17 230 rfl
theorem q4233 : (Jvm.Cond.instanceMethod ({ cls := "EchoFairModel", name := "canTrain", desc := "(I)Z" } : Jvm.MethodName)) ∈ lw_all := lw_g (lw_at lw_m17 231 rfl) rfl
theorem q4234 : (Jvm.Cond.code ({ cls := "EchoFairModel", name := "canTrain", desc := "(I)Z" } : Jvm.MethodName) prog_12_method_52_code (2 : Nat) (Option.some Jvm.ClassFile.FieldType.boolean)) ∈ lw_all := lw_g (lw_at lw_m17 232 rfl) rfl
theorem q4236 : (Jvm.Cond.instanceMethod ({ cls := "EchoFairModel", name := "echoCount", desc := "()I" } : Jvm.MethodName)) ∈ lw_all := lw_g (lw_at lw_m17 234 rfl) rfl
theorem q4237 : (Jvm.Cond.selects "EchoFairModel" ({ cls := "EchoFairModel", name := "echoCount", desc := "()I" } : Jvm.MethodName) ({ cls := "EchoFairModel", name := "echoCount", desc := "()I" } : Jvm.MethodName)) ∈ lw_all := lw_g (lw_at lw_m17 235 rfl) rfl
theorem q4238 : (Jvm.Cond.code ({ cls := "EchoFairModel", name := "echoCount", desc := "()I" } : Jvm.MethodName) prog_12_method_92_code (1 : Nat) (Option.some Jvm.ClassFile.FieldType.int)) ∈ lw_all := lw_g (lw_at lw_m17 236 rfl) rfl
theorem q4239 : (Jvm.Cond.methodLink "EchoFairModel" (386 : Nat) ({ cls := "EchoFairModel", name := "tells", desc := "(I)I" } : Jvm.MethodName)) ∈ lw_all := lw_g (lw_at lw_m17 237 rfl) rfl
theorem q4240 : (Jvm.Cond.privateMethod ({ cls := "EchoFairModel", name := "tells", desc := "(I)I" } : Jvm.MethodName)) ∈ lw_tbl := lw_at lw_m17 238 rfl
theorem q4241 : (Jvm.Cond.instanceMethod ({ cls := "EchoFairModel", name := "tells", desc := "(I)I" } : Jvm.MethodName)) ∈ lw_all := lw_g (lw_at lw_m17 239 rfl) rfl
theorem q4242 : (Jvm.Cond.code ({ cls := "EchoFairModel", name := "tells", desc := "(I)I" } : Jvm.MethodName) prog_12_method_89_code (2 : Nat) (Option.some Jvm.ClassFile.FieldType.int)) ∈ lw_all := lw_g (lw_at lw_m18 0 rfl) rfl
theorem q4244 : (Jvm.Cond.instanceMethod ({ cls := "EchoFairModel", name := "valleyCount", desc := "()I" } : Jvm.MethodName)) ∈ lw_all := lw_g (lw_at lw_m18 2 rfl) rfl
theorem q4245 : (Jvm.Cond.selects "EchoFairModel" ({ cls := "EchoFairModel", name := "valleyCount", desc := "()I" } : Jvm.MethodName) ({ cls := "EchoFairModel", name := "valleyCount", desc := "()I" } : Jvm.MethodName)) ∈ lw_all := lw_g (lw_at lw_m18 3 rfl) rfl
theorem q4246 : (Jvm.Cond.code ({ cls := "EchoFairModel", name := "valleyCount", desc := "()I" } : Jvm.MethodName) prog_12_method_93_code (1 : Nat) (Option.some Jvm.ClassFile.FieldType.int)) ∈ lw_all := lw_g (lw_at lw_m18 4 rfl) rfl
theorem q4248 : (Jvm.Cond.instanceMethod ({ cls := "EchoFairModel", name := "day", desc := "()I" } : Jvm.MethodName)) ∈ lw_all := lw_g (lw_at lw_m18 6 rfl) rfl
theorem q4249 : (Jvm.Cond.selects "EchoFairModel" ({ cls := "EchoFairModel", name := "day", desc := "()I" } : Jvm.MethodName) ({ cls := "EchoFairModel", name := "day", desc := "()I" } : Jvm.MethodName)) ∈ lw_all := lw_g (lw_at lw_m18 7 rfl) rfl
theorem q4250 : (Jvm.Cond.code ({ cls := "EchoFairModel", name := "day", desc := "()I" } : Jvm.MethodName) prog_12_method_94_code (1 : Nat) (Option.some Jvm.ClassFile.FieldType.int)) ∈ lw_all := lw_g (lw_at lw_m18 8 rfl) rfl
theorem q4252 : (Jvm.Cond.instanceMethod ({ cls := "EchoFairModel", name := "seasonLength", desc := "()I" } : Jvm.MethodName)) ∈ lw_all := lw_g (lw_at lw_m18 10 rfl) rfl
theorem q4253 : (Jvm.Cond.selects "EchoFairModel" ({ cls := "EchoFairModel", name := "seasonLength", desc := "()I" } : Jvm.MethodName) ({ cls := "EchoFairModel", name := "seasonLength", desc := "()I" } : Jvm.MethodName)) ∈ lw_all := lw_g (lw_at lw_m18 11 rfl) rfl
theorem q4254 : (Jvm.Cond.code ({ cls := "EchoFairModel", name := "seasonLength", desc := "()I" } : Jvm.MethodName) prog_12_method_95_code (1 : Nat) (Option.some Jvm.ClassFile.FieldType.int)) ∈ lw_all := lw_g (lw_at lw_m18 12 rfl) rfl
theorem q4256 : (Jvm.Cond.instanceMethod ({ cls := "EchoFairModel", name := "fogOf", desc := "(I)I" } : Jvm.MethodName)) ∈ lw_all := lw_g (lw_at lw_m18 14 rfl) rfl
theorem q4257 : (Jvm.Cond.selects "EchoFairModel" ({ cls := "EchoFairModel", name := "fogOf", desc := "(I)I" } : Jvm.MethodName) ({ cls := "EchoFairModel", name := "fogOf", desc := "(I)I" } : Jvm.MethodName)) ∈ lw_all := lw_g (lw_at lw_m18 15 rfl) rfl
theorem q4258 : (Jvm.Cond.code ({ cls := "EchoFairModel", name := "fogOf", desc := "(I)I" } : Jvm.MethodName) prog_12_method_96_code (2 : Nat) (Option.some Jvm.ClassFile.FieldType.int)) ∈ lw_all := lw_g (lw_at lw_m18 16 rfl) rfl
theorem q4259 : (Jvm.Cond.constantLong "EchoFairModel" (389 : Nat) (9999 : Int64)) ∈ lw_all := lw_g (lw_at lw_m18 17 rfl) rfl
theorem q4261 : (Jvm.Cond.instanceMethod ({ cls := "EchoFairModel", name := "findEcho", desc := "()I" } : Jvm.MethodName)) ∈ lw_all := lw_g (lw_at lw_m18 19 rfl) rfl
theorem q4262 : (Jvm.Cond.selects "EchoFairModel" ({ cls := "EchoFairModel", name := "findEcho", desc := "()I" } : Jvm.MethodName) ({ cls := "EchoFairModel", name := "findEcho", desc := "()I" } : Jvm.MethodName)) ∈ lw_all := lw_g (lw_at lw_m18 20 rfl) rfl
theorem q4263 : (Jvm.Cond.code ({ cls := "EchoFairModel", name := "findEcho", desc := "()I" } : Jvm.MethodName) prog_12_method_98_code (1 : Nat) (Option.some Jvm.ClassFile.FieldType.int)) ∈ lw_all := lw_g (lw_at lw_m18 21 rfl) rfl
theorem q4264 : (Jvm.Cond.methodLink "EchoFairModel" (391 : Nat) ({ cls := "EchoFairModel", name := "finds", desc := "(Z)I" } : Jvm.MethodName)) ∈ lw_all := lw_g (lw_at lw_m18 22 rfl) rfl
theorem q4265 : (Jvm.Cond.privateMethod ({ cls := "EchoFairModel", name := "finds", desc := "(Z)I" } : Jvm.MethodName)) ∈ lw_tbl := lw_at lw_m18 23 rfl
theorem q4266 : (Jvm.Cond.instanceMethod ({ cls := "EchoFairModel", name := "finds", desc := "(Z)I" } : Jvm.MethodName)) ∈ lw_all := lw_g (lw_at lw_m18 24 rfl) rfl
theorem q4267 : (Jvm.Cond.code ({ cls := "EchoFairModel", name := "finds", desc := "(Z)I" } : Jvm.MethodName) prog_12_method_97_code (3 : Nat) (Option.some Jvm.ClassFile.FieldType.int)) ∈ lw_all := lw_g (lw_at lw_m18 25 rfl) rfl
theorem q4269 : (Jvm.Cond.instanceMethod ({ cls := "EchoFairModel", name := "findValley", desc := "()I" } : Jvm.MethodName)) ∈ lw_all := lw_g (lw_at lw_m18 27 rfl) rfl
theorem q4270 : (Jvm.Cond.selects "EchoFairModel" ({ cls := "EchoFairModel", name := "findValley", desc := "()I" } : Jvm.MethodName) ({ cls := "EchoFairModel", name := "findValley", desc := "()I" } : Jvm.MethodName)) ∈ lw_all := lw_g (lw_at lw_m18 28 rfl) rfl
theorem q4271 : (Jvm.Cond.code ({ cls := "EchoFairModel", name := "findValley", desc := "()I" } : Jvm.MethodName) prog_12_method_99_code (1 : Nat) (Option.some Jvm.ClassFile.FieldType.int)) ∈ lw_all := lw_g (lw_at lw_m18 29 rfl) rfl
theorem q4273 : (Jvm.Cond.instanceMethod ({ cls := "EchoFairModel", name := "delayOf", desc := "(I)I" } : Jvm.MethodName)) ∈ lw_all := lw_g (lw_at lw_m18 31 rfl) rfl
theorem q4274 : (Jvm.Cond.selects "EchoFairModel" ({ cls := "EchoFairModel", name := "delayOf", desc := "(I)I" } : Jvm.MethodName) ({ cls := "EchoFairModel", name := "delayOf", desc := "(I)I" } : Jvm.MethodName)) ∈ lw_all := lw_g (lw_at lw_m18 32 rfl) rfl
theorem q4275 : (Jvm.Cond.code ({ cls := "EchoFairModel", name := "delayOf", desc := "(I)I" } : Jvm.MethodName) prog_12_method_100_code (2 : Nat) (Option.some Jvm.ClassFile.FieldType.int)) ∈ lw_all := lw_g (lw_at lw_m18 33 rfl) rfl
theorem q4276 : (Jvm.Cond.methodLink "EchoFairModel" (394 : Nat) ({ cls := "EchoFairModel", name := "tellsEcho", desc := "(II)I" } : Jvm.MethodName)) ∈ lw_all := lw_g (lw_at lw_m18 34 rfl) rfl
theorem q4277 : (Jvm.Cond.privateMethod ({ cls := "EchoFairModel", name := "tellsEcho", desc := "(II)I" } : Jvm.MethodName)) ∈ lw_tbl := lw_at lw_m18 35 rfl
theorem q4278 : (Jvm.Cond.instanceMethod ({ cls := "EchoFairModel", name := "tellsEcho", desc := "(II)I" } : Jvm.MethodName)) ∈ lw_all := lw_g (lw_at lw_m18 36 rfl) rfl
theorem q4279 : (Jvm.Cond.code ({ cls := "EchoFairModel", name := "tellsEcho", desc := "(II)I" } : Jvm.MethodName) prog_12_method_90_code (3 : Nat) (Option.some Jvm.ClassFile.FieldType.int)) ∈ lw_all := lw_g (lw_at lw_m18 37 rfl) rfl
theorem q4280 : (Jvm.Cond.methodLink "EchoFairModel" (83 : Nat) ({ cls := "EchoFairModel", name := "isEcho", desc := "(I)Z" } : Jvm.MethodName)) ∈ lw_all := lw_g (lw_at lw_m18 38 rfl) rfl
theorem q4281 : (Jvm.Cond.privateMethod ({ cls := "EchoFairModel", name := "isEcho", desc := "(I)Z" } : Jvm.MethodName)) ∈ lw_tbl := lw_at lw_m18 39 rfl
theorem q4282 : (Jvm.Cond.instanceMethod ({ cls := "EchoFairModel", name := "isEcho", desc := "(I)Z" } : Jvm.MethodName)) ∈ lw_all := lw_g (lw_at lw_m18 40 rfl) rfl
theorem q4283 : (Jvm.Cond.code ({ cls := "EchoFairModel", name := "isEcho", desc := "(I)Z" } : Jvm.MethodName) prog_12_method_15_code (2 : Nat) (Option.some Jvm.ClassFile.FieldType.boolean)) ∈ lw_all := lw_g (lw_at lw_m18 41 rfl) rfl
theorem q4285 : (Jvm.Cond.instanceMethod ({ cls := "EchoFairModel", name := "repeatsOf", desc := "(I)I" } : Jvm.MethodName)) ∈ lw_all := lw_g (lw_at lw_m18 43 rfl) rfl
theorem q4286 : (Jvm.Cond.selects "EchoFairModel" ({ cls := "EchoFairModel", name := "repeatsOf", desc := "(I)I" } : Jvm.MethodName) ({ cls := "EchoFairModel", name := "repeatsOf", desc := "(I)I" } : Jvm.MethodName)) ∈ lw_all := lw_g (lw_at lw_m18 44 rfl) rfl
theorem q4287 : (Jvm.Cond.code ({ cls := "EchoFairModel", name := "repeatsOf", desc := "(I)I" } : Jvm.MethodName) prog_12_method_101_code (2 : Nat) (Option.some Jvm.ClassFile.FieldType.int)) ∈ lw_all := lw_g (lw_at lw_m18 45 rfl) rfl
theorem q4289 : (Jvm.Cond.instanceMethod ({ cls := "EchoFairModel", name := "reserveWage", desc := "(I)I" } : Jvm.MethodName)) ∈ lw_all := lw_g (lw_at lw_m18 47 rfl) rfl
theorem q4290 : (Jvm.Cond.selects "EchoFairModel" ({ cls := "EchoFairModel", name := "reserveWage", desc := "(I)I" } : Jvm.MethodName) ({ cls := "EchoFairModel", name := "reserveWage", desc := "(I)I" } : Jvm.MethodName)) ∈ lw_all := lw_g (lw_at lw_m18 48 rfl) rfl
theorem q4291 : (Jvm.Cond.code ({ cls := "EchoFairModel", name := "reserveWage", desc := "(I)I" } : Jvm.MethodName) prog_12_method_102_code (2 : Nat) (Option.some Jvm.ClassFile.FieldType.int)) ∈ lw_all := lw_g (lw_at lw_m18 49 rfl) rfl
theorem q4293 : (Jvm.Cond.instanceMethod ({ cls := "EchoFairModel", name := "resistanceOf", desc := "(I)I" } : Jvm.MethodName)) ∈ lw_all := lw_g (lw_at lw_m18 51 rfl) rfl
theorem q4294 : (Jvm.Cond.selects "EchoFairModel" ({ cls := "EchoFairModel", name := "resistanceOf", desc := "(I)I" } : Jvm.MethodName) ({ cls := "EchoFairModel", name := "resistanceOf", desc := "(I)I" } : Jvm.MethodName)) ∈ lw_all := lw_g (lw_at lw_m18 52 rfl) rfl
theorem q4295 : (Jvm.Cond.code ({ cls := "EchoFairModel", name := "resistanceOf", desc := "(I)I" } : Jvm.MethodName) prog_12_method_103_code (2 : Nat) (Option.some Jvm.ClassFile.FieldType.int)) ∈ lw_all := lw_g (lw_at lw_m18 53 rfl) rfl
theorem q4297 : (Jvm.Cond.instanceMethod ({ cls := "EchoFairModel", name := "savingsOf", desc := "(I)I" } : Jvm.MethodName)) ∈ lw_all := lw_g (lw_at lw_m18 55 rfl) rfl
theorem q4298 : (Jvm.Cond.selects "EchoFairModel" ({ cls := "EchoFairModel", name := "savingsOf", desc := "(I)I" } : Jvm.MethodName) ({ cls := "EchoFairModel", name := "savingsOf", desc := "(I)I" } : Jvm.MethodName)) ∈ lw_all := lw_g (lw_at lw_m18 56 rfl) rfl
theorem q4299 : (Jvm.Cond.code ({ cls := "EchoFairModel", name := "savingsOf", desc := "(I)I" } : Jvm.MethodName) prog_12_method_104_code (2 : Nat) (Option.some Jvm.ClassFile.FieldType.int)) ∈ lw_all := lw_g (lw_at lw_m18 57 rfl) rfl
theorem q4301 : (Jvm.Cond.instanceMethod ({ cls := "EchoFairModel", name := "unpaidDays", desc := "(I)I" } : Jvm.MethodName)) ∈ lw_all := lw_g (lw_at lw_m18 59 rfl) rfl
theorem q4302 : (Jvm.Cond.selects "EchoFairModel" ({ cls := "EchoFairModel", name := "unpaidDays", desc := "(I)I" } : Jvm.MethodName) ({ cls := "EchoFairModel", name := "unpaidDays", desc := "(I)I" } : Jvm.MethodName)) ∈ lw_all := lw_g (lw_at lw_m18 60 rfl) rfl
theorem q4303 : (Jvm.Cond.code ({ cls := "EchoFairModel", name := "unpaidDays", desc := "(I)I" } : Jvm.MethodName) prog_12_method_105_code (2 : Nat) (Option.some Jvm.ClassFile.FieldType.int)) ∈ lw_all := lw_g (lw_at lw_m18 61 rfl) rfl
theorem q4305 : (Jvm.Cond.instanceMethod ({ cls := "EchoFairModel", name := "employerOf", desc := "(I)I" } : Jvm.MethodName)) ∈ lw_all := lw_g (lw_at lw_m18 63 rfl) rfl
theorem q4306 : (Jvm.Cond.selects "EchoFairModel" ({ cls := "EchoFairModel", name := "employerOf", desc := "(I)I" } : Jvm.MethodName) ({ cls := "EchoFairModel", name := "employerOf", desc := "(I)I" } : Jvm.MethodName)) ∈ lw_all := lw_g (lw_at lw_m18 64 rfl) rfl
theorem q4307 : (Jvm.Cond.code ({ cls := "EchoFairModel", name := "employerOf", desc := "(I)I" } : Jvm.MethodName) prog_12_method_106_code (2 : Nat) (Option.some Jvm.ClassFile.FieldType.int)) ∈ lw_all := lw_g (lw_at lw_m18 65 rfl) rfl
theorem q4309 : (Jvm.Cond.instanceMethod ({ cls := "EchoFairModel", name := "widthOf", desc := "(I)I" } : Jvm.MethodName)) ∈ lw_all := lw_g (lw_at lw_m18 67 rfl) rfl
theorem q4310 : (Jvm.Cond.selects "EchoFairModel" ({ cls := "EchoFairModel", name := "widthOf", desc := "(I)I" } : Jvm.MethodName) ({ cls := "EchoFairModel", name := "widthOf", desc := "(I)I" } : Jvm.MethodName)) ∈ lw_all := lw_g (lw_at lw_m18 68 rfl) rfl
theorem q4311 : (Jvm.Cond.code ({ cls := "EchoFairModel", name := "widthOf", desc := "(I)I" } : Jvm.MethodName) prog_12_method_107_code (2 : Nat) (Option.some Jvm.ClassFile.FieldType.int)) ∈ lw_all := lw_g (lw_at lw_m18 69 rfl) rfl
theorem q4312 : (Jvm.Cond.methodLink "EchoFairModel" (397 : Nat) ({ cls := "EchoFairModel", name := "tellsValley", desc := "(II)I" } : Jvm.MethodName)) ∈ lw_all := lw_g (lw_at lw_m18 70 rfl) rfl
theorem q4313 : (Jvm.Cond.privateMethod ({ cls := "EchoFairModel", name := "tellsValley", desc := "(II)I" } : Jvm.MethodName)) ∈ lw_tbl := lw_at lw_m18 71 rfl
theorem q4314 : (Jvm.Cond.instanceMethod ({ cls := "EchoFairModel", name := "tellsValley", desc := "(II)I" } : Jvm.MethodName)) ∈ lw_all := lw_g (lw_at lw_m18 72 rfl) rfl
theorem q4315 : (Jvm.Cond.code ({ cls := "EchoFairModel", name := "tellsValley", desc := "(II)I" } : Jvm.MethodName) prog_12_method_91_code (3 : Nat) (Option.some Jvm.ClassFile.FieldType.int)) ∈ lw_all := lw_g (lw_at lw_m18 73 rfl) rfl
theorem q4316 : (Jvm.Cond.methodLink "EchoFairModel" (79 : Nat) ({ cls := "EchoFairModel", name := "isValley", desc := "(I)Z" } : Jvm.MethodName)) ∈ lw_all := lw_g (lw_at lw_m18 74 rfl) rfl
theorem q4317 : (Jvm.Cond.privateMethod ({ cls := "EchoFairModel", name := "isValley", desc := "(I)Z" } : Jvm.MethodName)) ∈ lw_tbl := lw_at lw_m18 75 rfl
theorem q4318 : (Jvm.Cond.instanceMethod ({ cls := "EchoFairModel", name := "isValley", desc := "(I)Z" } : Jvm.MethodName)) ∈ lw_all := lw_g (lw_at lw_m18 76 rfl) rfl
theorem q4319 : (Jvm.Cond.code ({ cls := "EchoFairModel", name := "isValley", desc := "(I)Z" } : Jvm.MethodName) prog_12_method_16_code (2 : Nat) (Option.some Jvm.ClassFile.FieldType.boolean)) ∈ lw_all := lw_g (lw_at lw_m18 77 rfl) rfl
theorem q4321 : (Jvm.Cond.instanceMethod ({ cls := "EchoFairModel", name := "postsOf", desc := "(I)I" } : Jvm.MethodName)) ∈ lw_all := lw_g (lw_at lw_m18 79 rfl) rfl
theorem q4322 : (Jvm.Cond.selects "EchoFairModel" ({ cls := "EchoFairModel", name := "postsOf", desc := "(I)I" } : Jvm.MethodName) ({ cls := "EchoFairModel", name := "postsOf", desc := "(I)I" } : Jvm.MethodName)) ∈ lw_all := lw_g (lw_at lw_m18 80 rfl) rfl
theorem q4323 : (Jvm.Cond.code ({ cls := "EchoFairModel", name := "postsOf", desc := "(I)I" } : Jvm.MethodName) prog_12_method_108_code (2 : Nat) (Option.some Jvm.ClassFile.FieldType.int)) ∈ lw_all := lw_g (lw_at lw_m18 81 rfl) rfl
theorem q4325 : (Jvm.Cond.instanceMethod ({ cls := "EchoFairModel", name := "wageOf", desc := "(I)I" } : Jvm.MethodName)) ∈ lw_all := lw_g (lw_at lw_m18 83 rfl) rfl
theorem q4326 : (Jvm.Cond.selects "EchoFairModel" ({ cls := "EchoFairModel", name := "wageOf", desc := "(I)I" } : Jvm.MethodName) ({ cls := "EchoFairModel", name := "wageOf", desc := "(I)I" } : Jvm.MethodName)) ∈ lw_all := lw_g (lw_at lw_m18 84 rfl) rfl
theorem q4327 : (Jvm.Cond.code ({ cls := "EchoFairModel", name := "wageOf", desc := "(I)I" } : Jvm.MethodName) prog_12_method_109_code (2 : Nat) (Option.some Jvm.ClassFile.FieldType.int)) ∈ lw_all := lw_g (lw_at lw_m18 85 rfl) rfl
theorem q4329 : (Jvm.Cond.instanceMethod ({ cls := "EchoFairModel", name := "purseOf", desc := "(I)I" } : Jvm.MethodName)) ∈ lw_all := lw_g (lw_at lw_m18 87 rfl) rfl
theorem q4330 : (Jvm.Cond.selects "EchoFairModel" ({ cls := "EchoFairModel", name := "purseOf", desc := "(I)I" } : Jvm.MethodName) ({ cls := "EchoFairModel", name := "purseOf", desc := "(I)I" } : Jvm.MethodName)) ∈ lw_all := lw_g (lw_at lw_m18 88 rfl) rfl
theorem q4331 : (Jvm.Cond.code ({ cls := "EchoFairModel", name := "purseOf", desc := "(I)I" } : Jvm.MethodName) prog_12_method_110_code (2 : Nat) (Option.some Jvm.ClassFile.FieldType.int)) ∈ lw_all := lw_g (lw_at lw_m18 89 rfl) rfl
theorem q4333 : (Jvm.Cond.instanceMethod ({ cls := "EchoFairModel", name := "staffCount", desc := "(I)I" } : Jvm.MethodName)) ∈ lw_all := lw_g (lw_at lw_m18 91 rfl) rfl
theorem q4334 : (Jvm.Cond.selects "EchoFairModel" ({ cls := "EchoFairModel", name := "staffCount", desc := "(I)I" } : Jvm.MethodName) ({ cls := "EchoFairModel", name := "staffCount", desc := "(I)I" } : Jvm.MethodName)) ∈ lw_all := lw_g (lw_at lw_m18 92 rfl) rfl
theorem q4335 : (Jvm.Cond.code ({ cls := "EchoFairModel", name := "staffCount", desc := "(I)I" } : Jvm.MethodName) prog_12_method_111_code (2 : Nat) (Option.some Jvm.ClassFile.FieldType.int)) ∈ lw_all := lw_g (lw_at lw_m18 93 rfl) rfl
theorem q4337 : (Jvm.Cond.instanceMethod ({ cls := "EchoFairModel", name := "staffMember", desc := "(II)I" } : Jvm.MethodName)) ∈ lw_all := lw_g (lw_at lw_m18 95 rfl) rfl
theorem q4338 : (Jvm.Cond.selects "EchoFairModel" ({ cls := "EchoFairModel", name := "staffMember", desc := "(II)I" } : Jvm.MethodName) ({ cls := "EchoFairModel", name := "staffMember", desc := "(II)I" } : Jvm.MethodName)) ∈ lw_all := lw_g (lw_at lw_m18 96 rfl) rfl
theorem q4339 : (Jvm.Cond.code ({ cls := "EchoFairModel", name := "staffMember", desc := "(II)I" } : Jvm.MethodName) prog_12_method_112_code (3 : Nat) (Option.some Jvm.ClassFile.FieldType.int)) ∈ lw_all := lw_g (lw_at lw_m18 97 rfl) rfl
theorem q4341 : (Jvm.Cond.instanceMethod ({ cls := "EchoFairModel", name := "isTested", desc := "(II)Z" } : Jvm.MethodName)) ∈ lw_all := lw_g (lw_at lw_m18 99 rfl) rfl
theorem q4342 : (Jvm.Cond.selects "EchoFairModel" ({ cls := "EchoFairModel", name := "isTested", desc := "(II)Z" } : Jvm.MethodName) ({ cls := "EchoFairModel", name := "isTested", desc := "(II)Z" } : Jvm.MethodName)) ∈ lw_all := lw_g (lw_at lw_m18 100 rfl) rfl
theorem q4343 : (Jvm.Cond.code ({ cls := "EchoFairModel", name := "isTested", desc := "(II)Z" } : Jvm.MethodName) prog_12_method_113_code (3 : Nat) (Option.some Jvm.ClassFile.FieldType.boolean)) ∈ lw_all := lw_g (lw_at lw_m18 101 rfl) rfl
theorem q4344 : (Jvm.Cond.methodLink "EchoFairModel" (400 : Nat) ({ cls := "EchoFairModel", name := "areBoth", desc := "(II)Z" } : Jvm.MethodName)) ∈ lw_all := lw_g (lw_at lw_m18 102 rfl) rfl
theorem q4345 : (Jvm.Cond.privateMethod ({ cls := "EchoFairModel", name := "areBoth", desc := "(II)Z" } : Jvm.MethodName)) ∈ lw_tbl := lw_at lw_m18 103 rfl
theorem q4346 : (Jvm.Cond.instanceMethod ({ cls := "EchoFairModel", name := "areBoth", desc := "(II)Z" } : Jvm.MethodName)) ∈ lw_all := lw_g (lw_at lw_m18 104 rfl) rfl
theorem q4347 : (Jvm.Cond.code ({ cls := "EchoFairModel", name := "areBoth", desc := "(II)Z" } : Jvm.MethodName) prog_12_method_17_code (3 : Nat) (Option.some Jvm.ClassFile.FieldType.boolean)) ∈ lw_all := lw_g (lw_at lw_m18 105 rfl) rfl
theorem q4349 : (Jvm.Cond.instanceMethod ({ cls := "EchoFairModel", name := "seenScore", desc := "(II)I" } : Jvm.MethodName)) ∈ lw_all := lw_g (lw_at lw_m18 107 rfl) rfl
theorem q4350 : (Jvm.Cond.selects "EchoFairModel" ({ cls := "EchoFairModel", name := "seenScore", desc := "(II)I" } : Jvm.MethodName) ({ cls := "EchoFairModel", name := "seenScore", desc := "(II)I" } : Jvm.MethodName)) ∈ lw_all := lw_g (lw_at lw_m18 108 rfl) rfl
theorem q4351 : (Jvm.Cond.code ({ cls := "EchoFairModel", name := "seenScore", desc := "(II)I" } : Jvm.MethodName) prog_12_method_114_code (3 : Nat) (Option.some Jvm.ClassFile.FieldType.int)) ∈ lw_all := lw_g (lw_at lw_m18 109 rfl) rfl
theorem q4353 : (Jvm.Cond.instanceMethod ({ cls := "EchoFairModel", name := "pairReason", desc := "(II)I" } : Jvm.MethodName)) ∈ lw_all := lw_g (lw_at lw_m18 111 rfl) rfl
theorem q4354 : (Jvm.Cond.selects "EchoFairModel" ({ cls := "EchoFairModel", name := "pairReason", desc := "(II)I" } : Jvm.MethodName) ({ cls := "EchoFairModel", name := "pairReason", desc := "(II)I" } : Jvm.MethodName)) ∈ lw_all := lw_g (lw_at lw_m18 112 rfl) rfl
theorem q4355 : (Jvm.Cond.code ({ cls := "EchoFairModel", name := "pairReason", desc := "(II)I" } : Jvm.MethodName) prog_12_method_115_code (3 : Nat) (Option.some Jvm.ClassFile.FieldType.int)) ∈ lw_all := lw_g (lw_at lw_m18 113 rfl) rfl
theorem q4357 : (Jvm.Cond.instanceMethod ({ cls := "EchoFairModel", name := "preferredValley", desc := "(II)I" } : Jvm.MethodName)) ∈ lw_all := lw_g (lw_at lw_m18 115 rfl) rfl
theorem q4358 : (Jvm.Cond.selects "EchoFairModel" ({ cls := "EchoFairModel", name := "preferredValley", desc := "(II)I" } : Jvm.MethodName) ({ cls := "EchoFairModel", name := "preferredValley", desc := "(II)I" } : Jvm.MethodName)) ∈ lw_all := lw_g (lw_at lw_m18 116 rfl) rfl
theorem q4359 : (Jvm.Cond.code ({ cls := "EchoFairModel", name := "preferredValley", desc := "(II)I" } : Jvm.MethodName) prog_12_method_117_code (3 : Nat) (Option.some Jvm.ClassFile.FieldType.int)) ∈ lw_all := lw_g (lw_at lw_m18 117 rfl) rfl
theorem q4360 : (Jvm.Cond.methodLink "EchoFairModel" (406 : Nat) ({ cls := "EchoFairModel", name := "valleyAt", desc := "(II)I" } : Jvm.MethodName)) ∈ lw_all := lw_g (lw_at lw_m18 118 rfl) rfl
theorem q4361 : (Jvm.Cond.privateMethod ({ cls := "EchoFairModel", name := "valleyAt", desc := "(II)I" } : Jvm.MethodName)) ∈ lw_tbl := lw_at lw_m18 119 rfl
theorem q4362 : (Jvm.Cond.instanceMethod ({ cls := "EchoFairModel", name := "valleyAt", desc := "(II)I" } : Jvm.MethodName)) ∈ lw_all := lw_g (lw_at lw_m18 120 rfl) rfl
theorem q4363 : (Jvm.Cond.code ({ cls := "EchoFairModel", name := "valleyAt", desc := "(II)I" } : Jvm.MethodName) prog_12_method_116_code (6 : Nat) (Option.some Jvm.ClassFile.FieldType.int)) ∈ lw_all := lw_g (lw_at lw_m18 121 rfl) rfl
theorem q4364 : (Jvm.Cond.methodLink "EchoFairModel" (403 : Nat) ({ cls := "EchoFairModel", name := "truth", desc := "(Z)I" } : Jvm.MethodName)) ∈ lw_all := lw_g (lw_at lw_m18 122 rfl) rfl
theorem q4365 : (Jvm.Cond.static ({ cls := "EchoFairModel", name := "truth", desc := "(Z)I" } : Jvm.MethodName)) ∈ lw_all := lw_g (lw_at lw_m18 123 rfl) rfl
theorem q4366 : (Jvm.Cond.code ({ cls := "EchoFairModel", name := "truth", desc := "(Z)I" } : Jvm.MethodName) prog_12_method_4_code (1 : Nat) (Option.some Jvm.ClassFile.FieldType.int)) ∈ lw_all := lw_g (lw_at lw_m18 124 rfl) rfl
theorem q4368 : (Jvm.Cond.instanceMethod ({ cls := "EchoFairModel", name := "preferredEcho", desc := "(II)I" } : Jvm.MethodName)) ∈ lw_all := lw_g (lw_at lw_m18 126 rfl) rfl
theorem q4369 : (Jvm.Cond.selects "EchoFairModel" ({ cls := "EchoFairModel", name := "preferredEcho", desc := "(II)I" } : Jvm.MethodName) ({ cls := "EchoFairModel", name := "preferredEcho", desc := "(II)I" } : Jvm.MethodName)) ∈ lw_all := lw_g (lw_at lw_m18 127 rfl) rfl
theorem q4370 : (Jvm.Cond.code ({ cls := "EchoFairModel", name := "preferredEcho", desc := "(II)I" } : Jvm.MethodName) prog_12_method_119_code (3 : Nat) (Option.some Jvm.ClassFile.FieldType.int)) ∈ lw_all := lw_g (lw_at lw_m18 128 rfl) rfl
theorem q4371 : (Jvm.Cond.methodLink "EchoFairModel" (409 : Nat) ({ cls := "EchoFairModel", name := "echoAt", desc := "(II)I" } : Jvm.MethodName)) ∈ lw_all := lw_g (lw_at lw_m18 129 rfl) rfl
theorem q4372 : (Jvm.Cond.privateMethod ({ cls := "EchoFairModel", name := "echoAt", desc := "(II)I" } : Jvm.MethodName)) ∈ lw_tbl := lw_at lw_m18 130 rfl
theorem q4373 : (Jvm.Cond.instanceMethod ({ cls := "EchoFairModel", name := "echoAt", desc := "(II)I" } : Jvm.MethodName)) ∈ lw_all := lw_g (lw_at lw_m18 131 rfl) rfl
theorem q4374 : (Jvm.Cond.code ({ cls := "EchoFairModel", name := "echoAt", desc := "(II)I" } : Jvm.MethodName) prog_12_method_118_code (6 : Nat) (Option.some Jvm.ClassFile.FieldType.int)) ∈ lw_all := lw_g (lw_at lw_m18 132 rfl) rfl
theorem q4376 : (Jvm.Cond.instanceMethod ({ cls := "EchoFairModel", name := "blockingPairs", desc := "()I" } : Jvm.MethodName)) ∈ lw_all := lw_g (lw_at lw_m18 134 rfl) rfl
theorem q4377 : (Jvm.Cond.selects "EchoFairModel" ({ cls := "EchoFairModel", name := "blockingPairs", desc := "()I" } : Jvm.MethodName) ({ cls := "EchoFairModel", name := "blockingPairs", desc := "()I" } : Jvm.MethodName)) ∈ lw_all := lw_g (lw_at lw_m18 135 rfl) rfl
theorem q4378 : (Jvm.Cond.code ({ cls := "EchoFairModel", name := "blockingPairs", desc := "()I" } : Jvm.MethodName) prog_12_method_123_code (4 : Nat) (Option.some Jvm.ClassFile.FieldType.int)) ∈ lw_all := lw_g (lw_at lw_m18 136 rfl) rfl
theorem q4379 : (Jvm.Cond.methodLink "EchoFairModel" (418 : Nat) ({ cls := "EchoFairModel", name := "isBlocking", desc := "(II)Z" } : Jvm.MethodName)) ∈ lw_all := lw_g (lw_at lw_m18 137 rfl) rfl
theorem q4380 : (Jvm.Cond.privateMethod ({ cls := "EchoFairModel", name := "isBlocking", desc := "(II)Z" } : Jvm.MethodName)) ∈ lw_tbl := lw_at lw_m18 138 rfl
theorem q4381 : (Jvm.Cond.instanceMethod ({ cls := "EchoFairModel", name := "isBlocking", desc := "(II)Z" } : Jvm.MethodName)) ∈ lw_all := lw_g (lw_at lw_m18 139 rfl) rfl
theorem q4382 : (Jvm.Cond.code ({ cls := "EchoFairModel", name := "isBlocking", desc := "(II)Z" } : Jvm.MethodName) prog_12_method_122_code (3 : Nat) (Option.some Jvm.ClassFile.FieldType.boolean)) ∈ lw_all := lw_g (lw_at lw_m18 140 rfl) rfl
theorem q4383 : (Jvm.Cond.methodLink "EchoFairModel" (412 : Nat) ({ cls := "EchoFairModel", name := "wouldLeave", desc := "(II)Z" } : Jvm.MethodName)) ∈ lw_all := lw_g (lw_at lw_m18 141 rfl) rfl
theorem q4384 : (Jvm.Cond.privateMethod ({ cls := "EchoFairModel", name := "wouldLeave", desc := "(II)Z" } : Jvm.MethodName)) ∈ lw_tbl := lw_at lw_m18 142 rfl
theorem q4385 : (Jvm.Cond.instanceMethod ({ cls := "EchoFairModel", name := "wouldLeave", desc := "(II)Z" } : Jvm.MethodName)) ∈ lw_all := lw_g (lw_at lw_m18 143 rfl) rfl
theorem q4386 : (Jvm.Cond.code ({ cls := "EchoFairModel", name := "wouldLeave", desc := "(II)Z" } : Jvm.MethodName) prog_12_method_120_code (4 : Nat) (Option.some Jvm.ClassFile.FieldType.boolean)) ∈ lw_all := lw_g (lw_at lw_m18 144 rfl) rfl
theorem q4387 : (Jvm.Cond.methodLink "EchoFairModel" (415 : Nat) ({ cls := "EchoFairModel", name := "wouldTake", desc := "(II)Z" } : Jvm.MethodName)) ∈ lw_all := lw_g (lw_at lw_m18 145 rfl) rfl
theorem q4388 : (Jvm.Cond.privateMethod ({ cls := "EchoFairModel", name := "wouldTake", desc := "(II)Z" } : Jvm.MethodName)) ∈ lw_tbl := lw_at lw_m18 146 rfl
theorem q4389 : (Jvm.Cond.instanceMethod ({ cls := "EchoFairModel", name := "wouldTake", desc := "(II)Z" } : Jvm.MethodName)) ∈ lw_all := lw_g (lw_at lw_m18 147 rfl) rfl
theorem q4390 : (Jvm.Cond.code ({ cls := "EchoFairModel", name := "wouldTake", desc := "(II)Z" } : Jvm.MethodName) prog_12_method_121_code (4 : Nat) (Option.some Jvm.ClassFile.FieldType.boolean)) ∈ lw_all := lw_g (lw_at lw_m18 148 rfl) rfl
theorem q4392 : (Jvm.Cond.instanceMethod ({ cls := "EchoFairModel", name := "fairResult", desc := "(I)I" } : Jvm.MethodName)) ∈ lw_all := lw_g (lw_at lw_m18 150 rfl) rfl
theorem q4393 : (Jvm.Cond.selects "EchoFairModel" ({ cls := "EchoFairModel", name := "fairResult", desc := "(I)I" } : Jvm.MethodName) ({ cls := "EchoFairModel", name := "fairResult", desc := "(I)I" } : Jvm.MethodName)) ∈ lw_all := lw_g (lw_at lw_m18 151 rfl) rfl
theorem q4394 : (Jvm.Cond.code ({ cls := "EchoFairModel", name := "fairResult", desc := "(I)I" } : Jvm.MethodName) prog_12_method_125_code (2 : Nat) (Option.some Jvm.ClassFile.FieldType.int)) ∈ lw_all := lw_g (lw_at lw_m18 152 rfl) rfl
theorem q4395 : (Jvm.Cond.methodLink "EchoFairModel" (427 : Nat) ({ cls := "EchoFairModel", name := "resultOf", desc := "(I)I" } : Jvm.MethodName)) ∈ lw_all := lw_g (lw_at lw_m18 153 rfl) rfl
theorem q4396 : (Jvm.Cond.privateMethod ({ cls := "EchoFairModel", name := "resultOf", desc := "(I)I" } : Jvm.MethodName)) ∈ lw_tbl := lw_at lw_m18 154 rfl
theorem q4397 : (Jvm.Cond.instanceMethod ({ cls := "EchoFairModel", name := "resultOf", desc := "(I)I" } : Jvm.MethodName)) ∈ lw_all := lw_g (lw_at lw_m18 155 rfl) rfl
theorem q4398 : (Jvm.Cond.code ({ cls := "EchoFairModel", name := "resultOf", desc := "(I)I" } : Jvm.MethodName) prog_12_method_124_code (2 : Nat) (Option.some Jvm.ClassFile.FieldType.int)) ∈ lw_all := lw_g (lw_at lw_m18 156 rfl) rfl
theorem q4399 : (Jvm.Cond.methodLink "EchoFairModel" (421 : Nat) ({ cls := "EchoFairModel", name := "tries", desc := "()V" } : Jvm.MethodName)) ∈ lw_all := lw_g (lw_at lw_m18 157 rfl) rfl
theorem q4400 : (Jvm.Cond.privateMethod ({ cls := "EchoFairModel", name := "tries", desc := "()V" } : Jvm.MethodName)) ∈ lw_tbl := lw_at lw_m18 158 rfl
theorem q4401 : (Jvm.Cond.instanceMethod ({ cls := "EchoFairModel", name := "tries", desc := "()V" } : Jvm.MethodName)) ∈ lw_all := lw_g (lw_at lw_m18 159 rfl) rfl
theorem q4402 : (Jvm.Cond.code ({ cls := "EchoFairModel", name := "tries", desc := "()V" } : Jvm.MethodName) prog_12_method_8_code (1 : Nat) (Option.none : Option Jvm.ClassFile.FieldType)) ∈ lw_all := lw_g (lw_at lw_m18 160 rfl) rfl
theorem q4403 : (Jvm.Cond.methodLink "EchoFairModel" (424 : Nat) ({ cls := "EchoFairModel", name := "laidBack", desc := "(I)I" } : Jvm.MethodName)) ∈ lw_all := lw_g (lw_at lw_m18 161 rfl) rfl
theorem q4404 : (Jvm.Cond.privateMethod ({ cls := "EchoFairModel", name := "laidBack", desc := "(I)I" } : Jvm.MethodName)) ∈ lw_tbl := lw_at lw_m18 162 rfl
theorem q4405 : (Jvm.Cond.instanceMethod ({ cls := "EchoFairModel", name := "laidBack", desc := "(I)I" } : Jvm.MethodName)) ∈ lw_all := lw_g (lw_at lw_m18 163 rfl) rfl
theorem q4406 : (Jvm.Cond.code ({ cls := "EchoFairModel", name := "laidBack", desc := "(I)I" } : Jvm.MethodName) prog_12_method_9_code (2 : Nat) (Option.some Jvm.ClassFile.FieldType.int)) ∈ lw_all := lw_g (lw_at lw_m18 164 rfl) rfl
theorem q4408 : (Jvm.Cond.instanceMethod ({ cls := "EchoFairModel", name := "savingsAfter", desc := "(II)I" } : Jvm.MethodName)) ∈ lw_all := lw_g (lw_at lw_m18 166 rfl) rfl
theorem q4409 : (Jvm.Cond.selects "EchoFairModel" ({ cls := "EchoFairModel", name := "savingsAfter", desc := "(II)I" } : Jvm.MethodName) ({ cls := "EchoFairModel", name := "savingsAfter", desc := "(II)I" } : Jvm.MethodName)) ∈ lw_all := lw_g (lw_at lw_m18 167 rfl) rfl
theorem q4410 : (Jvm.Cond.code ({ cls := "EchoFairModel", name := "savingsAfter", desc := "(II)I" } : Jvm.MethodName) prog_12_method_127_code (3 : Nat) (Option.some Jvm.ClassFile.FieldType.int)) ∈ lw_all := lw_g (lw_at lw_m18 168 rfl) rfl
theorem q4411 : (Jvm.Cond.methodLink "EchoFairModel" (432 : Nat) ({ cls := "EchoFairModel", name := "areDays", desc := "(I)Z" } : Jvm.MethodName)) ∈ lw_all := lw_g (lw_at lw_m18 169 rfl) rfl
theorem q4412 : (Jvm.Cond.static ({ cls := "EchoFairModel", name := "areDays", desc := "(I)Z" } : Jvm.MethodName)) ∈ lw_all := lw_g (lw_at lw_m18 170 rfl) rfl
theorem q4413 : (Jvm.Cond.code ({ cls := "EchoFairModel", name := "areDays", desc := "(I)Z" } : Jvm.MethodName) prog_12_method_126_code (1 : Nat) (Option.some Jvm.ClassFile.FieldType.boolean)) ∈ lw_all := lw_g (lw_at lw_m18 171 rfl) rfl
theorem q4414 : (Jvm.Cond.constantLong "EchoFairModel" (430 : Nat) (120 : Int64)) ∈ lw_all := lw_g (lw_at lw_m18 172 rfl) rfl
theorem q4415 : (Jvm.Cond.methodLink "EchoFairModel" (435 : Nat) ({ cls := "EchoFairModel", name := "passesBoth", desc := "(ZZ)Z" } : Jvm.MethodName)) ∈ lw_all := lw_g (lw_at lw_m18 173 rfl) rfl
theorem q4416 : (Jvm.Cond.privateMethod ({ cls := "EchoFairModel", name := "passesBoth", desc := "(ZZ)Z" } : Jvm.MethodName)) ∈ lw_tbl := lw_at lw_m18 174 rfl
theorem q4417 : (Jvm.Cond.instanceMethod ({ cls := "EchoFairModel", name := "passesBoth", desc := "(ZZ)Z" } : Jvm.MethodName)) ∈ lw_all := lw_g (lw_at lw_m18 175 rfl) rfl
theorem q4418 : (Jvm.Cond.code ({ cls := "EchoFairModel", name := "passesBoth", desc := "(ZZ)Z" } : Jvm.MethodName) prog_12_method_6_code (3 : Nat) (Option.some Jvm.ClassFile.FieldType.boolean)) ∈ lw_all := lw_g (lw_at lw_m18 176 rfl) rfl
theorem q4420 : (Jvm.Cond.instanceMethod ({ cls := "EchoFairModel", name := "purseAfter", desc := "(II)I" } : Jvm.MethodName)) ∈ lw_all := lw_g (lw_at lw_m18 178 rfl) rfl
theorem q4421 : (Jvm.Cond.selects "EchoFairModel" ({ cls := "EchoFairModel", name := "purseAfter", desc := "(II)I" } : Jvm.MethodName) ({ cls := "EchoFairModel", name := "purseAfter", desc := "(II)I" } : Jvm.MethodName)) ∈ lw_all := lw_g (lw_at lw_m18 179 rfl) rfl
theorem q4422 : (Jvm.Cond.code ({ cls := "EchoFairModel", name := "purseAfter", desc := "(II)I" } : Jvm.MethodName) prog_12_method_128_code (3 : Nat) (Option.some Jvm.ClassFile.FieldType.int)) ∈ lw_all := lw_g (lw_at lw_m18 180 rfl) rfl
theorem q4424 : (Jvm.Cond.instanceMethod ({ cls := "EchoFairModel", name := "desertsIn", desc := "(I)I" } : Jvm.MethodName)) ∈ lw_all := lw_g (lw_at lw_m18 182 rfl) rfl
theorem q4425 : (Jvm.Cond.selects "EchoFairModel" ({ cls := "EchoFairModel", name := "desertsIn", desc := "(I)I" } : Jvm.MethodName) ({ cls := "EchoFairModel", name := "desertsIn", desc := "(I)I" } : Jvm.MethodName)) ∈ lw_all := lw_g (lw_at lw_m18 183 rfl) rfl
theorem q4426 : (Jvm.Cond.code ({ cls := "EchoFairModel", name := "desertsIn", desc := "(I)I" } : Jvm.MethodName) prog_12_method_129_code (4 : Nat) (Option.some Jvm.ClassFile.FieldType.int)) ∈ lw_all := lw_g (lw_at lw_m18 184 rfl) rfl
theorem q4428 : (Jvm.Cond.instanceMethod ({ cls := "EchoFairModel", name := "leastWage", desc := "(II)I" } : Jvm.MethodName)) ∈ lw_all := lw_g (lw_at lw_m18 186 rfl) rfl
theorem q4429 : (Jvm.Cond.selects "EchoFairModel" ({ cls := "EchoFairModel", name := "leastWage", desc := "(II)I" } : Jvm.MethodName) ({ cls := "EchoFairModel", name := "leastWage", desc := "(II)I" } : Jvm.MethodName)) ∈ lw_all := lw_g (lw_at lw_m18 187 rfl) rfl
theorem q4430 : (Jvm.Cond.code ({ cls := "EchoFairModel", name := "leastWage", desc := "(II)I" } : Jvm.MethodName) prog_12_method_130_code (6 : Nat) (Option.some Jvm.ClassFile.FieldType.int)) ∈ lw_all := lw_g (lw_at lw_m18 188 rfl) rfl
theorem q4432 : (Jvm.Cond.instanceMethod ({ cls := "EchoFairModel", name := "bestTest", desc := "(I)I" } : Jvm.MethodName)) ∈ lw_all := lw_g (lw_at lw_m18 190 rfl) rfl
theorem q4433 : (Jvm.Cond.selects "EchoFairModel" ({ cls := "EchoFairModel", name := "bestTest", desc := "(I)I" } : Jvm.MethodName) ({ cls := "EchoFairModel", name := "bestTest", desc := "(I)I" } : Jvm.MethodName)) ∈ lw_all := lw_g (lw_at lw_m18 191 rfl) rfl
theorem q4434 : (Jvm.Cond.code ({ cls := "EchoFairModel", name := "bestTest", desc := "(I)I" } : Jvm.MethodName) prog_12_method_131_code (4 : Nat) (Option.some Jvm.ClassFile.FieldType.int)) ∈ lw_all := lw_g (lw_at lw_m18 192 rfl) rfl
theorem q4436 : (Jvm.Cond.instanceMethod ({ cls := "EchoFairModel", name := "richestEcho", desc := "()I" } : Jvm.MethodName)) ∈ lw_all := lw_g (lw_at lw_m18 194 rfl) rfl
theorem q4437 : (Jvm.Cond.selects "EchoFairModel" ({ cls := "EchoFairModel", name := "richestEcho", desc := "()I" } : Jvm.MethodName) ({ cls := "EchoFairModel", name := "richestEcho", desc := "()I" } : Jvm.MethodName)) ∈ lw_all := lw_g (lw_at lw_m18 195 rfl) rfl
theorem q4438 : (Jvm.Cond.code ({ cls := "EchoFairModel", name := "richestEcho", desc := "()I" } : Jvm.MethodName) prog_12_method_132_code (3 : Nat) (Option.some Jvm.ClassFile.FieldType.int)) ∈ lw_all := lw_g (lw_at lw_m18 196 rfl) rfl
theorem q4440 : (Jvm.Cond.instanceMethod ({ cls := "EchoFairModel", name := "daysServed", desc := "(II)I" } : Jvm.MethodName)) ∈ lw_all := lw_g (lw_at lw_m18 198 rfl) rfl
theorem q4441 : (Jvm.Cond.selects "EchoFairModel" ({ cls := "EchoFairModel", name := "daysServed", desc := "(II)I" } : Jvm.MethodName) ({ cls := "EchoFairModel", name := "daysServed", desc := "(II)I" } : Jvm.MethodName)) ∈ lw_all := lw_g (lw_at lw_m18 199 rfl) rfl
theorem q4442 : (Jvm.Cond.code ({ cls := "EchoFairModel", name := "daysServed", desc := "(II)I" } : Jvm.MethodName) prog_12_method_133_code (3 : Nat) (Option.some Jvm.ClassFile.FieldType.int)) ∈ lw_all := lw_g (lw_at lw_m18 200 rfl) rfl
theorem q4444 : (Jvm.Cond.instanceMethod ({ cls := "EchoFairModel", name := "contractsMade", desc := "()I" } : Jvm.MethodName)) ∈ lw_all := lw_g (lw_at lw_m18 202 rfl) rfl
theorem q4445 : (Jvm.Cond.selects "EchoFairModel" ({ cls := "EchoFairModel", name := "contractsMade", desc := "()I" } : Jvm.MethodName) ({ cls := "EchoFairModel", name := "contractsMade", desc := "()I" } : Jvm.MethodName)) ∈ lw_all := lw_g (lw_at lw_m18 203 rfl) rfl
theorem q4446 : (Jvm.Cond.code ({ cls := "EchoFairModel", name := "contractsMade", desc := "()I" } : Jvm.MethodName) prog_12_method_134_code (1 : Nat) (Option.some Jvm.ClassFile.FieldType.int)) ∈ lw_all := lw_g (lw_at lw_m18 204 rfl) rfl
theorem q4448 : (Jvm.Cond.instanceMethod ({ cls := "EchoFairModel", name := "contractsEnded", desc := "()I" } : Jvm.MethodName)) ∈ lw_all := lw_g (lw_at lw_m18 206 rfl) rfl
theorem q4449 : (Jvm.Cond.selects "EchoFairModel" ({ cls := "EchoFairModel", name := "contractsEnded", desc := "()I" } : Jvm.MethodName) ({ cls := "EchoFairModel", name := "contractsEnded", desc := "()I" } : Jvm.MethodName)) ∈ lw_all := lw_g (lw_at lw_m18 207 rfl) rfl
theorem q4450 : (Jvm.Cond.code ({ cls := "EchoFairModel", name := "contractsEnded", desc := "()I" } : Jvm.MethodName) prog_12_method_135_code (1 : Nat) (Option.some Jvm.ClassFile.FieldType.int)) ∈ lw_all := lw_g (lw_at lw_m18 208 rfl) rfl
theorem q4452 : (Jvm.Cond.instanceMethod ({ cls := "EchoFairModel", name := "desertions", desc := "(I)I" } : Jvm.MethodName)) ∈ lw_all := lw_g (lw_at lw_m18 210 rfl) rfl
theorem q4453 : (Jvm.Cond.selects "EchoFairModel" ({ cls := "EchoFairModel", name := "desertions", desc := "(I)I" } : Jvm.MethodName) ({ cls := "EchoFairModel", name := "desertions", desc := "(I)I" } : Jvm.MethodName)) ∈ lw_all := lw_g (lw_at lw_m18 211 rfl) rfl
theorem q4454 : (Jvm.Cond.code ({ cls := "EchoFairModel", name := "desertions", desc := "(I)I" } : Jvm.MethodName) prog_12_method_136_code (2 : Nat) (Option.some Jvm.ClassFile.FieldType.int)) ∈ lw_all := lw_g (lw_at lw_m18 212 rfl) rfl
theorem q4456 : (Jvm.Cond.instanceMethod ({ cls := "EchoFairModel", name := "repliesHeard", desc := "(I)I" } : Jvm.MethodName)) ∈ lw_all := lw_g (lw_at lw_m18 214 rfl) rfl
theorem q4457 : (Jvm.Cond.selects "EchoFairModel" ({ cls := "EchoFairModel", name := "repliesHeard", desc := "(I)I" } : Jvm.MethodName) ({ cls := "EchoFairModel", name := "repliesHeard", desc := "(I)I" } : Jvm.MethodName)) ∈ lw_all := lw_g (lw_at lw_m18 215 rfl) rfl
theorem q4458 : (Jvm.Cond.code ({ cls := "EchoFairModel", name := "repliesHeard", desc := "(I)I" } : Jvm.MethodName) prog_12_method_137_code (2 : Nat) (Option.some Jvm.ClassFile.FieldType.int)) ∈ lw_all := lw_g (lw_at lw_m18 216 rfl) rfl
theorem q4460 : (Jvm.Cond.instanceMethod ({ cls := "EchoFairModel", name := "wagesPaid", desc := "(I)I" } : Jvm.MethodName)) ∈ lw_all := lw_g (lw_at lw_m18 218 rfl) rfl
theorem q4461 : (Jvm.Cond.selects "EchoFairModel" ({ cls := "EchoFairModel", name := "wagesPaid", desc := "(I)I" } : Jvm.MethodName) ({ cls := "EchoFairModel", name := "wagesPaid", desc := "(I)I" } : Jvm.MethodName)) ∈ lw_all := lw_g (lw_at lw_m18 219 rfl) rfl
theorem q4462 : (Jvm.Cond.code ({ cls := "EchoFairModel", name := "wagesPaid", desc := "(I)I" } : Jvm.MethodName) prog_12_method_138_code (2 : Nat) (Option.some Jvm.ClassFile.FieldType.int)) ∈ lw_all := lw_g (lw_at lw_m18 220 rfl) rfl
theorem q4464 : (Jvm.Cond.instanceMethod ({ cls := "EchoFairModel", name := "moneyImbalance", desc := "()I" } : Jvm.MethodName)) ∈ lw_all := lw_g (lw_at lw_m18 222 rfl) rfl
theorem q4465 : (Jvm.Cond.selects "EchoFairModel" ({ cls := "EchoFairModel", name := "moneyImbalance", desc := "()I" } : Jvm.MethodName) ({ cls := "EchoFairModel", name := "moneyImbalance", desc := "()I" } : Jvm.MethodName)) ∈ lw_all := lw_g (lw_at lw_m18 223 rfl) rfl
theorem q4466 : (Jvm.Cond.code ({ cls := "EchoFairModel", name := "moneyImbalance", desc := "()I" } : Jvm.MethodName) prog_12_method_142_code (1 : Nat) (Option.some Jvm.ClassFile.FieldType.int)) ∈ lw_all := lw_g (lw_at lw_m18 224 rfl) rfl
theorem q4467 : (Jvm.Cond.methodLink "EchoFairModel" (439 : Nat) ({ cls := "EchoFairModel", name := "purses", desc := "()I" } : Jvm.MethodName)) ∈ lw_all := lw_g (lw_at lw_m18 225 rfl) rfl
theorem q4468 : (Jvm.Cond.privateMethod ({ cls := "EchoFairModel", name := "purses", desc := "()I" } : Jvm.MethodName)) ∈ lw_tbl := lw_at lw_m18 226 rfl
theorem q4469 : (Jvm.Cond.instanceMethod ({ cls := "EchoFairModel", name := "purses", desc := "()I" } : Jvm.MethodName)) ∈ lw_all := lw_g (lw_at lw_m18 227 rfl) rfl
theorem q4470 : (Jvm.Cond.code ({ cls := "EchoFairModel", name := "purses", desc := "()I" } : Jvm.MethodName) prog_12_method_140_code (3 : Nat) (Option.some Jvm.ClassFile.FieldType.int)) ∈ lw_all := lw_g (lw_at lw_m18 228 rfl) rfl
theorem q4471 : (Jvm.Cond.methodLink "EchoFairModel" (442 : Nat) ({ cls := "EchoFairModel", name := "savings", desc := "()I" } : Jvm.MethodName)) ∈ lw_all := lw_g (lw_at lw_m18 229 rfl) rfl
theorem q4472 : (Jvm.Cond.privateMethod ({ cls := "EchoFairModel", name := "savings", desc := "()I" } : Jvm.MethodName)) ∈ lw_tbl := lw_at lw_m18 230 rfl
theorem q4473 : (Jvm.Cond.instanceMethod ({ cls := "EchoFairModel", name := "savings", desc := "()I" } : Jvm.MethodName)) ∈ lw_all := lw_g (lw_at lw_m18 231 rfl) rfl
theorem q4474 : (Jvm.Cond.code ({ cls := "EchoFairModel", name := "savings", desc := "()I" } : Jvm.MethodName) prog_12_method_139_code (3 : Nat) (Option.some Jvm.ClassFile.FieldType.int)) ∈ lw_all := lw_g (lw_at lw_m18 232 rfl) rfl
theorem q4476 : (Jvm.Cond.instanceMethod ({ cls := "EchoFairModel", name := "contractImbalance", desc := "()I" } : Jvm.MethodName)) ∈ lw_all := lw_g (lw_at lw_m18 234 rfl) rfl
theorem q4477 : (Jvm.Cond.selects "EchoFairModel" ({ cls := "EchoFairModel", name := "contractImbalance", desc := "()I" } : Jvm.MethodName) ({ cls := "EchoFairModel", name := "contractImbalance", desc := "()I" } : Jvm.MethodName)) ∈ lw_all := lw_g (lw_at lw_m18 235 rfl) rfl
theorem q4478 : (Jvm.Cond.code ({ cls := "EchoFairModel", name := "contractImbalance", desc := "()I" } : Jvm.MethodName) prog_12_method_143_code (1 : Nat) (Option.some Jvm.ClassFile.FieldType.int)) ∈ lw_all := lw_g (lw_at lw_m18 236 rfl) rfl
theorem q4479 : (Jvm.Cond.methodLink "EchoFairModel" (445 : Nat) ({ cls := "EchoFairModel", name := "contracts", desc := "()I" } : Jvm.MethodName)) ∈ lw_all := lw_g (lw_at lw_m18 237 rfl) rfl
theorem q4480 : (Jvm.Cond.privateMethod ({ cls := "EchoFairModel", name := "contracts", desc := "()I" } : Jvm.MethodName)) ∈ lw_tbl := lw_at lw_m18 238 rfl
theorem q4481 : (Jvm.Cond.instanceMethod ({ cls := "EchoFairModel", name := "contracts", desc := "()I" } : Jvm.MethodName)) ∈ lw_all := lw_g (lw_at lw_m18 239 rfl) rfl
theorem q4482 : (Jvm.Cond.code ({ cls := "EchoFairModel", name := "contracts", desc := "()I" } : Jvm.MethodName) prog_12_method_141_code (3 : Nat) (Option.some Jvm.ClassFile.FieldType.int)) ∈ lw_all := lw_g (lw_at lw_m19 0 rfl) rfl
theorem q4484 : (Jvm.Cond.instanceMethod ({ cls := "EchoFairModel", name := "doubleServants", desc := "()I" } : Jvm.MethodName)) ∈ lw_all := lw_g (lw_at lw_m19 2 rfl) rfl
theorem q4485 : (Jvm.Cond.selects "EchoFairModel" ({ cls := "EchoFairModel", name := "doubleServants", desc := "()I" } : Jvm.MethodName) ({ cls := "EchoFairModel", name := "doubleServants", desc := "()I" } : Jvm.MethodName)) ∈ lw_all := lw_g (lw_at lw_m19 3 rfl) rfl
theorem q4486 : (Jvm.Cond.code ({ cls := "EchoFairModel", name := "doubleServants", desc := "()I" } : Jvm.MethodName) prog_12_method_145_code (3 : Nat) (Option.some Jvm.ClassFile.FieldType.int)) ∈ lw_all := lw_g (lw_at lw_m19 4 rfl) rfl
theorem q4487 : (Jvm.Cond.methodLink "EchoFairModel" (448 : Nat) ({ cls := "EchoFairModel", name := "servedBy", desc := "(I)I" } : Jvm.MethodName)) ∈ lw_all := lw_g (lw_at lw_m19 5 rfl) rfl
theorem q4488 : (Jvm.Cond.privateMethod ({ cls := "EchoFairModel", name := "servedBy", desc := "(I)I" } : Jvm.MethodName)) ∈ lw_tbl := lw_at lw_m19 6 rfl
theorem q4489 : (Jvm.Cond.instanceMethod ({ cls := "EchoFairModel", name := "servedBy", desc := "(I)I" } : Jvm.MethodName)) ∈ lw_all := lw_g (lw_at lw_m19 7 rfl) rfl
theorem q4490 : (Jvm.Cond.code ({ cls := "EchoFairModel", name := "servedBy", desc := "(I)I" } : Jvm.MethodName) prog_12_method_144_code (5 : Nat) (Option.some Jvm.ClassFile.FieldType.int)) ∈ lw_all := lw_g (lw_at lw_m19 8 rfl) rfl
theorem q4492 : (Jvm.Cond.instanceMethod ({ cls := "EchoFairModel", name := "meanSavings", desc := "()D" } : Jvm.MethodName)) ∈ lw_all := lw_g (lw_at lw_m19 10 rfl) rfl
theorem q4493 : (Jvm.Cond.selects "EchoFairModel" ({ cls := "EchoFairModel", name := "meanSavings", desc := "()D" } : Jvm.MethodName) ({ cls := "EchoFairModel", name := "meanSavings", desc := "()D" } : Jvm.MethodName)) ∈ lw_all := lw_g (lw_at lw_m19 11 rfl) rfl
theorem q4494 : (Jvm.Cond.code ({ cls := "EchoFairModel", name := "meanSavings", desc := "()D" } : Jvm.MethodName) prog_12_method_146_code (1 : Nat) (Option.some Jvm.ClassFile.FieldType.double)) ∈ lw_all := lw_g (lw_at lw_m19 12 rfl) rfl
theorem q4496 : (Jvm.Cond.instanceMethod ({ cls := "EchoFairModel", name := "employmentRate", desc := "()F" } : Jvm.MethodName)) ∈ lw_all := lw_g (lw_at lw_m19 14 rfl) rfl
theorem q4497 : (Jvm.Cond.selects "EchoFairModel" ({ cls := "EchoFairModel", name := "employmentRate", desc := "()F" } : Jvm.MethodName) ({ cls := "EchoFairModel", name := "employmentRate", desc := "()F" } : Jvm.MethodName)) ∈ lw_all := lw_g (lw_at lw_m19 15 rfl) rfl
theorem q4498 : (Jvm.Cond.code ({ cls := "EchoFairModel", name := "employmentRate", desc := "()F" } : Jvm.MethodName) prog_12_method_147_code (1 : Nat) (Option.some Jvm.ClassFile.FieldType.float)) ∈ lw_all := lw_g (lw_at lw_m19 16 rfl) rfl
theorem q4500 : (Jvm.Cond.instanceMethod ({ cls := "EchoFairModel", name := "passDays", desc := "(I)I" } : Jvm.MethodName)) ∈ lw_all := lw_g (lw_at lw_m19 18 rfl) rfl
theorem q4501 : (Jvm.Cond.selects "EchoFairModel" ({ cls := "EchoFairModel", name := "passDays", desc := "(I)I" } : Jvm.MethodName) ({ cls := "EchoFairModel", name := "passDays", desc := "(I)I" } : Jvm.MethodName)) ∈ lw_all := lw_g (lw_at lw_m19 19 rfl) rfl
theorem q4502 : (Jvm.Cond.code ({ cls := "EchoFairModel", name := "passDays", desc := "(I)I" } : Jvm.MethodName) prog_12_method_150_code (2 : Nat) (Option.some Jvm.ClassFile.FieldType.int)) ∈ lw_all := lw_g (lw_at lw_m19 20 rfl) rfl
theorem q4503 : (Jvm.Cond.constantLong "EchoFairModel" (451 : Nat) (60 : Int64)) ∈ lw_all := lw_g (lw_at lw_m19 21 rfl) rfl
theorem q4504 : (Jvm.Cond.methodLink "EchoFairModel" (453 : Nat) ({ cls := "EchoFairModel", name := "tried", desc := "(Z)Z" } : Jvm.MethodName)) ∈ lw_all := lw_g (lw_at lw_m19 22 rfl) rfl
theorem q4505 : (Jvm.Cond.privateMethod ({ cls := "EchoFairModel", name := "tried", desc := "(Z)Z" } : Jvm.MethodName)) ∈ lw_tbl := lw_at lw_m19 23 rfl
theorem q4506 : (Jvm.Cond.instanceMethod ({ cls := "EchoFairModel", name := "tried", desc := "(Z)Z" } : Jvm.MethodName)) ∈ lw_all := lw_g (lw_at lw_m19 24 rfl) rfl
theorem q4507 : (Jvm.Cond.code ({ cls := "EchoFairModel", name := "tried", desc := "(Z)Z" } : Jvm.MethodName) prog_12_method_148_code (2 : Nat) (Option.some Jvm.ClassFile.FieldType.boolean)) ∈ lw_all := lw_g (lw_at lw_m19 25 rfl) rfl
theorem q4508 : (Jvm.Cond.methodLink "EchoFairModel" (456 : Nat) ({ cls := "EchoFairModel", name := "done", desc := "(Z)I" } : Jvm.MethodName)) ∈ lw_all := lw_g (lw_at lw_m19 26 rfl) rfl
theorem q4509 : (Jvm.Cond.privateMethod ({ cls := "EchoFairModel", name := "done", desc := "(Z)I" } : Jvm.MethodName)) ∈ lw_tbl := lw_at lw_m19 27 rfl
theorem q4510 : (Jvm.Cond.instanceMethod ({ cls := "EchoFairModel", name := "done", desc := "(Z)I" } : Jvm.MethodName)) ∈ lw_all := lw_g (lw_at lw_m19 28 rfl) rfl
theorem q4511 : (Jvm.Cond.code ({ cls := "EchoFairModel", name := "done", desc := "(Z)I" } : Jvm.MethodName) prog_12_method_149_code (2 : Nat) (Option.some Jvm.ClassFile.FieldType.int)) ∈ lw_all := lw_g (lw_at lw_m19 29 rfl) rfl
theorem q4513 : (Jvm.Cond.instanceMethod ({ cls := "EchoFairModel", name := "holdFair", desc := "()I" } : Jvm.MethodName)) ∈ lw_all := lw_g (lw_at lw_m19 31 rfl) rfl
theorem q4514 : (Jvm.Cond.selects "EchoFairModel" ({ cls := "EchoFairModel", name := "holdFair", desc := "()I" } : Jvm.MethodName) ({ cls := "EchoFairModel", name := "holdFair", desc := "()I" } : Jvm.MethodName)) ∈ lw_all := lw_g (lw_at lw_m19 32 rfl) rfl
theorem q4515 : (Jvm.Cond.code ({ cls := "EchoFairModel", name := "holdFair", desc := "()I" } : Jvm.MethodName) prog_12_method_151_code (1 : Nat) (Option.some Jvm.ClassFile.FieldType.int)) ∈ lw_all := lw_g (lw_at lw_m19 33 rfl) rfl
theorem q4517 : (Jvm.Cond.instanceMethod ({ cls := "EchoFairModel", name := "test", desc := "(II)I" } : Jvm.MethodName)) ∈ lw_all := lw_g (lw_at lw_m19 35 rfl) rfl
theorem q4518 : (Jvm.Cond.selects "EchoFairModel" ({ cls := "EchoFairModel", name := "test", desc := "(II)I" } : Jvm.MethodName) ({ cls := "EchoFairModel", name := "test", desc := "(II)I" } : Jvm.MethodName)) ∈ lw_all := lw_g (lw_at lw_m19 36 rfl) rfl
theorem q4519 : (Jvm.Cond.code ({ cls := "EchoFairModel", name := "test", desc := "(II)I" } : Jvm.MethodName) prog_12_method_152_code (4 : Nat) (Option.some Jvm.ClassFile.FieldType.int)) ∈ lw_all := lw_g (lw_at lw_m19 37 rfl) rfl
theorem q4521 : (Jvm.Cond.instanceMethod ({ cls := "EchoFairModel", name := "dismiss", desc := "(I)I" } : Jvm.MethodName)) ∈ lw_all := lw_g (lw_at lw_m19 39 rfl) rfl
theorem q4522 : (Jvm.Cond.selects "EchoFairModel" ({ cls := "EchoFairModel", name := "dismiss", desc := "(I)I" } : Jvm.MethodName) ({ cls := "EchoFairModel", name := "dismiss", desc := "(I)I" } : Jvm.MethodName)) ∈ lw_all := lw_g (lw_at lw_m19 40 rfl) rfl
theorem q4523 : (Jvm.Cond.code ({ cls := "EchoFairModel", name := "dismiss", desc := "(I)I" } : Jvm.MethodName) prog_12_method_153_code (2 : Nat) (Option.some Jvm.ClassFile.FieldType.int)) ∈ lw_all := lw_g (lw_at lw_m19 41 rfl) rfl
theorem q4525 : (Jvm.Cond.instanceMethod ({ cls := "EchoFairModel", name := "setWage", desc := "(II)I" } : Jvm.MethodName)) ∈ lw_all := lw_g (lw_at lw_m19 43 rfl) rfl
theorem q4526 : (Jvm.Cond.selects "EchoFairModel" ({ cls := "EchoFairModel", name := "setWage", desc := "(II)I" } : Jvm.MethodName) ({ cls := "EchoFairModel", name := "setWage", desc := "(II)I" } : Jvm.MethodName)) ∈ lw_all := lw_g (lw_at lw_m19 44 rfl) rfl
theorem q4527 : (Jvm.Cond.code ({ cls := "EchoFairModel", name := "setWage", desc := "(II)I" } : Jvm.MethodName) prog_12_method_154_code (3 : Nat) (Option.some Jvm.ClassFile.FieldType.int)) ∈ lw_all := lw_g (lw_at lw_m19 45 rfl) rfl
theorem q4528 : (Jvm.Cond.constantLong "EchoFairModel" (459 : Nat) (99 : Int64)) ∈ lw_all := lw_g (lw_at lw_m19 46 rfl) rfl
theorem q4530 : (Jvm.Cond.instanceMethod ({ cls := "EchoFairModel", name := "fund", desc := "(II)I" } : Jvm.MethodName)) ∈ lw_all := lw_g (lw_at lw_m19 48 rfl) rfl
theorem q4531 : (Jvm.Cond.selects "EchoFairModel" ({ cls := "EchoFairModel", name := "fund", desc := "(II)I" } : Jvm.MethodName) ({ cls := "EchoFairModel", name := "fund", desc := "(II)I" } : Jvm.MethodName)) ∈ lw_all := lw_g (lw_at lw_m19 49 rfl) rfl
theorem q4532 : (Jvm.Cond.code ({ cls := "EchoFairModel", name := "fund", desc := "(II)I" } : Jvm.MethodName) prog_12_method_155_code (3 : Nat) (Option.some Jvm.ClassFile.FieldType.int)) ∈ lw_all := lw_g (lw_at lw_m19 50 rfl) rfl
theorem q4533 : (Jvm.Cond.constantLong "EchoFairModel" (461 : Nat) (999 : Int64)) ∈ lw_all := lw_g (lw_at lw_m19 51 rfl) rfl
theorem q4535 : (Jvm.Cond.instanceMethod ({ cls := "EchoFairModel", name := "train", desc := "(I)I" } : Jvm.MethodName)) ∈ lw_all := lw_g (lw_at lw_m19 53 rfl) rfl
theorem q4536 : (Jvm.Cond.selects "EchoFairModel" ({ cls := "EchoFairModel", name := "train", desc := "(I)I" } : Jvm.MethodName) ({ cls := "EchoFairModel", name := "train", desc := "(I)I" } : Jvm.MethodName)) ∈ lw_all := lw_g (lw_at lw_m19 54 rfl) rfl
theorem q4537 : (Jvm.Cond.code ({ cls := "EchoFairModel", name := "train", desc := "(I)I" } : Jvm.MethodName) prog_12_method_156_code (2 : Nat) (Option.some Jvm.ClassFile.FieldType.int)) ∈ lw_all := lw_g (lw_at lw_m19 55 rfl) rfl
theorem q4539 : (Jvm.Cond.instanceMethod ({ cls := "EchoFairModel", name := "undo", desc := "()I" } : Jvm.MethodName)) ∈ lw_all := lw_g (lw_at lw_m19 57 rfl) rfl
theorem q4540 : (Jvm.Cond.selects "EchoFairModel" ({ cls := "EchoFairModel", name := "undo", desc := "()I" } : Jvm.MethodName) ({ cls := "EchoFairModel", name := "undo", desc := "()I" } : Jvm.MethodName)) ∈ lw_all := lw_g (lw_at lw_m19 58 rfl) rfl
theorem q4541 : (Jvm.Cond.code ({ cls := "EchoFairModel", name := "undo", desc := "()I" } : Jvm.MethodName) prog_12_method_157_code (1 : Nat) (Option.some Jvm.ClassFile.FieldType.int)) ∈ lw_all := lw_g (lw_at lw_m19 59 rfl) rfl
theorem q4543 : (Jvm.Cond.instanceMethod ({ cls := "EchoFairModel", name := "save", desc := "()I" } : Jvm.MethodName)) ∈ lw_all := lw_g (lw_at lw_m19 61 rfl) rfl
theorem q4544 : (Jvm.Cond.selects "EchoFairModel" ({ cls := "EchoFairModel", name := "save", desc := "()I" } : Jvm.MethodName) ({ cls := "EchoFairModel", name := "save", desc := "()I" } : Jvm.MethodName)) ∈ lw_all := lw_g (lw_at lw_m19 62 rfl) rfl
theorem q4545 : (Jvm.Cond.code ({ cls := "EchoFairModel", name := "save", desc := "()I" } : Jvm.MethodName) prog_12_method_158_code (1 : Nat) (Option.some Jvm.ClassFile.FieldType.int)) ∈ lw_all := lw_g (lw_at lw_m19 63 rfl) rfl
theorem q4547 : (Jvm.Cond.instanceMethod ({ cls := "EchoFairModel", name := "restore", desc := "()I" } : Jvm.MethodName)) ∈ lw_all := lw_g (lw_at lw_m19 65 rfl) rfl
theorem q4548 : (Jvm.Cond.selects "EchoFairModel" ({ cls := "EchoFairModel", name := "restore", desc := "()I" } : Jvm.MethodName) ({ cls := "EchoFairModel", name := "restore", desc := "()I" } : Jvm.MethodName)) ∈ lw_all := lw_g (lw_at lw_m19 66 rfl) rfl
theorem q4549 : (Jvm.Cond.code ({ cls := "EchoFairModel", name := "restore", desc := "()I" } : Jvm.MethodName) prog_12_method_159_code (1 : Nat) (Option.some Jvm.ClassFile.FieldType.int)) ∈ lw_all := lw_g (lw_at lw_m19 67 rfl) rfl
theorem q4551 : (Jvm.Cond.instanceMethod ({ cls := "EchoFairModel", name := "formatContracts", desc := "()I" } : Jvm.MethodName)) ∈ lw_all := lw_g (lw_at lw_m19 69 rfl) rfl
theorem q4552 : (Jvm.Cond.selects "EchoFairModel" ({ cls := "EchoFairModel", name := "formatContracts", desc := "()I" } : Jvm.MethodName) ({ cls := "EchoFairModel", name := "formatContracts", desc := "()I" } : Jvm.MethodName)) ∈ lw_all := lw_g (lw_at lw_m19 70 rfl) rfl
theorem q4553 : (Jvm.Cond.code ({ cls := "EchoFairModel", name := "formatContracts", desc := "()I" } : Jvm.MethodName) prog_12_method_162_code (3 : Nat) (Option.some Jvm.ClassFile.FieldType.int)) ∈ lw_all := lw_g (lw_at lw_m19 71 rfl) rfl
theorem q4554 : (Jvm.Cond.methodLink "EchoFairModel" (470 : Nat) ({ cls := "EchoFairModel", name := "writes", desc := "(I)V" } : Jvm.MethodName)) ∈ lw_all := lw_g (lw_at lw_m19 72 rfl) rfl
theorem q4555 : (Jvm.Cond.privateMethod ({ cls := "EchoFairModel", name := "writes", desc := "(I)V" } : Jvm.MethodName)) ∈ lw_tbl := lw_at lw_m19 73 rfl
theorem q4556 : (Jvm.Cond.instanceMethod ({ cls := "EchoFairModel", name := "writes", desc := "(I)V" } : Jvm.MethodName)) ∈ lw_all := lw_g (lw_at lw_m19 74 rfl) rfl
theorem q4557 : (Jvm.Cond.code ({ cls := "EchoFairModel", name := "writes", desc := "(I)V" } : Jvm.MethodName) prog_12_method_160_code (2 : Nat) (Option.none : Option Jvm.ClassFile.FieldType)) ∈ lw_all := lw_g (lw_at lw_m19 75 rfl) rfl
theorem q4558 : (Jvm.Cond.methodLink "EchoFairModel" (473 : Nat) ({ cls := "EchoFairModel", name := "writesName", desc := "(I)V" } : Jvm.MethodName)) ∈ lw_all := lw_g (lw_at lw_m19 76 rfl) rfl
theorem q4559 : (Jvm.Cond.privateMethod ({ cls := "EchoFairModel", name := "writesName", desc := "(I)V" } : Jvm.MethodName)) ∈ lw_tbl := lw_at lw_m19 77 rfl
theorem q4560 : (Jvm.Cond.instanceMethod ({ cls := "EchoFairModel", name := "writesName", desc := "(I)V" } : Jvm.MethodName)) ∈ lw_all := lw_g (lw_at lw_m19 78 rfl) rfl
theorem q4561 : (Jvm.Cond.code ({ cls := "EchoFairModel", name := "writesName", desc := "(I)V" } : Jvm.MethodName) prog_12_method_161_code (3 : Nat) (Option.none : Option Jvm.ClassFile.FieldType)) ∈ lw_all := lw_g (lw_at lw_m19 79 rfl) rfl
theorem q4563 : (Jvm.Cond.instanceMethod ({ cls := "EchoFairModel", name := "outputByte", desc := "(I)I" } : Jvm.MethodName)) ∈ lw_all := lw_g (lw_at lw_m19 81 rfl) rfl
theorem q4564 : (Jvm.Cond.selects "EchoFairModel" ({ cls := "EchoFairModel", name := "outputByte", desc := "(I)I" } : Jvm.MethodName) ({ cls := "EchoFairModel", name := "outputByte", desc := "(I)I" } : Jvm.MethodName)) ∈ lw_all := lw_g (lw_at lw_m19 82 rfl) rfl
theorem q4565 : (Jvm.Cond.code ({ cls := "EchoFairModel", name := "outputByte", desc := "(I)I" } : Jvm.MethodName) prog_12_method_163_code (2 : Nat) (Option.some Jvm.ClassFile.FieldType.int)) ∈ lw_all := lw_g (lw_at lw_m19 83 rfl) rfl
theorem q4626 : (Jvm.Cond.castable "EchoFairModel" "java/lang/Object") ∈ lw_tbl := lw_at lw_m19 144 rfl
theorem q201 : (Jvm.Cond.initialized "EchoFair$Parser") ∈ lw_all := lw_g (lw_at lw_m1 39 rfl) rfl
theorem q978 : (Jvm.Cond.selects "EchoFair$Parser" ({ cls := "java/lang/Object", name := "getClass", desc := "()Ljava/lang/Class;" } : Jvm.MethodName) ({ cls := "java/lang/Object", name := "getClass", desc := "()Ljava/lang/Class;" } : Jvm.MethodName)) ∈ lw_all := lw_g (lw_at lw_m4 96 rfl) rfl
theorem q1041 : (Jvm.Cond.selects "EchoFair$Parser" ({ cls := "java/lang/Object", name := "toString", desc := "()Ljava/lang/String;" } : Jvm.MethodName) ({ cls := "java/lang/Object", name := "toString", desc := "()Ljava/lang/String;" } : Jvm.MethodName)) ∈ lw_all := lw_g (lw_at lw_m4 159 rfl) rfl
theorem q1205 : (Jvm.Cond.fieldLinkNest "EchoFair$Parser" (150 : Nat) "EchoFair$State" "echoes" "Ljava/util/List;" "EchoFair") ∈ lw_tbl := lw_at lw_m5 83 rfl
theorem q1209 : (Jvm.Cond.fieldLinkNest "EchoFair$Parser" (160 : Nat) "EchoFair$State" "valleys" "Ljava/util/List;" "EchoFair") ∈ lw_tbl := lw_at lw_m5 87 rfl
theorem q1217 : (Jvm.Cond.fieldLinkNest "EchoFair$Parser" (166 : Nat) "EchoFair$State" "start" "I" "EchoFair") ∈ lw_tbl := lw_at lw_m5 95 rfl
theorem q1370 : (Jvm.Cond.fieldLinkNest "EchoFair$Parser" (216 : Nat) "EchoFair$Valley" "tested" "[Z" "EchoFair") ∈ lw_tbl := lw_at lw_m6 8 rfl
theorem q1379 : (Jvm.Cond.fieldLinkNest "EchoFair$Parser" (171 : Nat) "EchoFair$Valley" "purse" "I" "EchoFair") ∈ lw_tbl := lw_at lw_m6 17 rfl
theorem q1460 : (Jvm.Cond.fieldLinkNest "EchoFair$Parser" (248 : Nat) "EchoFair" "state" "LEchoFair$State;" "EchoFair") ∈ lw_tbl := lw_at lw_m6 98 rfl
theorem q1463 : (Jvm.Cond.fieldLinkNest "EchoFair$Parser" (31 : Nat) "EchoFair" "buffer" "[B" "EchoFair") ∈ lw_tbl := lw_at lw_m6 101 rfl
theorem q1465 : (Jvm.Cond.fieldLinkNest "EchoFair$Parser" (15 : Nat) "EchoFair" "bufferLength" "I" "EchoFair") ∈ lw_tbl := lw_at lw_m6 103 rfl
theorem q1649 : (Jvm.Cond.selects "EchoFair$Parser" ({ cls := "java/lang/Object", name := "hashCode", desc := "()I" } : Jvm.MethodName) ({ cls := "java/lang/Object", name := "hashCode", desc := "()I" } : Jvm.MethodName)) ∈ lw_all := lw_g (lw_at lw_m7 47 rfl) rfl
theorem q1744 : (Jvm.Cond.selects "EchoFair$Parser" ({ cls := "java/lang/Object", name := "equals", desc := "(Ljava/lang/Object;)Z" } : Jvm.MethodName) ({ cls := "java/lang/Object", name := "equals", desc := "(Ljava/lang/Object;)Z" } : Jvm.MethodName)) ∈ lw_all := lw_g (lw_at lw_m7 142 rfl) rfl
theorem q3085 : (Jvm.Cond.instantiable "EchoFair$Parser" (7 : Nat)) ∈ lw_all := lw_g (lw_at lw_m13 43 rfl) rfl
theorem q3087 : (Jvm.Cond.instanceMethod ({ cls := "EchoFair$Parser", name := "<init>", desc := "(LEchoFair;)V" } : Jvm.MethodName)) ∈ lw_all := lw_g (lw_at lw_m13 45 rfl) rfl
theorem q3088 : (Jvm.Cond.code ({ cls := "EchoFair$Parser", name := "<init>", desc := "(LEchoFair;)V" } : Jvm.MethodName) prog_7_method_1_code (2 : Nat) (Option.none : Option Jvm.ClassFile.FieldType)) ∈ lw_all := lw_g (lw_at lw_m13 46 rfl) rfl
theorem q3089 : (Jvm.Cond.methodLink "EchoFair$Parser" (9 : Nat) ({ cls := "java/lang/Object", name := "<init>", desc := "()V" } : Jvm.MethodName)) ∈ lw_all := lw_g (lw_at lw_m13 47 rfl) rfl
theorem q3090 : (Jvm.Cond.stringRef "EchoFair$Parser" (22 : Nat) "") ∈ lw_tbl := lw_at lw_m13 48 rfl
theorem q3091 : (Jvm.Cond.methodLink "EchoFair$Parser" (28 : Nat) ({ cls := "EchoFair$Parser", name := "advance", desc := "()V" } : Jvm.MethodName)) ∈ lw_all := lw_g (lw_at lw_m13 49 rfl) rfl
theorem q3092 : (Jvm.Cond.instanceMethod ({ cls := "EchoFair$Parser", name := "advance", desc := "()V" } : Jvm.MethodName)) ∈ lw_all := lw_g (lw_at lw_m13 50 rfl) rfl
theorem q3093 : (Jvm.Cond.selects "EchoFair$Parser" ({ cls := "EchoFair$Parser", name := "advance", desc := "()V" } : Jvm.MethodName) ({ cls := "EchoFair$Parser", name := "advance", desc := "()V" } : Jvm.MethodName)) ∈ lw_all := lw_g (lw_at lw_m13 51 rfl) rfl
theorem q3094 : (Jvm.Cond.code ({ cls := "EchoFair$Parser", name := "advance", desc := "()V" } : Jvm.MethodName) prog_7_method_3_code (3 : Nat) (Option.none : Option Jvm.ClassFile.FieldType)) ∈ lw_all := lw_g (lw_at lw_m13 52 rfl) rfl
theorem q3095 : (Jvm.Cond.methodLink "EchoFair$Parser" (38 : Nat) ({ cls := "EchoFair$Parser", name := "byteAt", desc := "(I)I" } : Jvm.MethodName)) ∈ lw_all := lw_g (lw_at lw_m13 53 rfl) rfl
theorem q3096 : (Jvm.Cond.privateMethod ({ cls := "EchoFair$Parser", name := "byteAt", desc := "(I)I" } : Jvm.MethodName)) ∈ lw_tbl := lw_at lw_m13 54 rfl
theorem q3097 : (Jvm.Cond.instanceMethod ({ cls := "EchoFair$Parser", name := "byteAt", desc := "(I)I" } : Jvm.MethodName)) ∈ lw_all := lw_g (lw_at lw_m13 55 rfl) rfl
theorem q3098 : (Jvm.Cond.code ({ cls := "EchoFair$Parser", name := "byteAt", desc := "(I)I" } : Jvm.MethodName) prog_7_method_2_code (2 : Nat) (Option.some Jvm.ClassFile.FieldType.int)) ∈ lw_all := lw_g (lw_at lw_m13 56 rfl) rfl
theorem q3099 : (Jvm.Cond.fieldLink "EchoFair$Parser" (45 : Nat) "EchoFair$TokenKind" "END" "LEchoFair$TokenKind;") ∈ lw_all := lw_g (lw_at lw_m13 57 rfl) rfl
theorem q3101 : (Jvm.Cond.constantLong "EchoFair$Parser" (54 : Nat) (97 : Int64)) ∈ lw_all := lw_g (lw_at lw_m13 59 rfl) rfl
theorem q3102 : (Jvm.Cond.constantLong "EchoFair$Parser" (56 : Nat) (122 : Int64)) ∈ lw_all := lw_g (lw_at lw_m13 60 rfl) rfl
theorem q3103 : (Jvm.Cond.methodLinkNest "EchoFair$Parser" (58 : Nat) ({ cls := "EchoFair", name := "inRange", desc := "(JJJ)Z" } : Jvm.MethodName) "EchoFair") ∈ lw_tbl := lw_at lw_m13 61 rfl
theorem q3104 : (Jvm.Cond.fieldLink "EchoFair$Parser" (62 : Nat) "EchoFair$TokenKind" "WORD" "LEchoFair$TokenKind;") ∈ lw_all := lw_g (lw_at lw_m13 62 rfl) rfl
theorem q3106 : (Jvm.Cond.classLink "EchoFair$Parser" (65 : Nat) "java/lang/StringBuilder") ∈ lw_all := lw_g (lw_at lw_m13 64 rfl) rfl
theorem q3107 : (Jvm.Cond.methodLink "EchoFair$Parser" (67 : Nat) ({ cls := "java/lang/StringBuilder", name := "<init>", desc := "()V" } : Jvm.MethodName)) ∈ lw_all := lw_g (lw_at lw_m13 65 rfl) rfl
theorem q3108 : (Jvm.Cond.methodLink "EchoFair$Parser" (68 : Nat) ({ cls := "java/lang/StringBuilder", name := "append", desc := "(C)Ljava/lang/StringBuilder;" } : Jvm.MethodName)) ∈ lw_all := lw_g (lw_at lw_m13 66 rfl) rfl
theorem q3109 : (Jvm.Cond.methodLink "EchoFair$Parser" (72 : Nat) ({ cls := "java/lang/StringBuilder", name := "toString", desc := "()Ljava/lang/String;" } : Jvm.MethodName)) ∈ lw_all := lw_g (lw_at lw_m13 67 rfl) rfl
theorem q3110 : (Jvm.Cond.constantLong "EchoFair$Parser" (76 : Nat) (48 : Int64)) ∈ lw_all := lw_g (lw_at lw_m13 68 rfl) rfl
theorem q3111 : (Jvm.Cond.constantLong "EchoFair$Parser" (78 : Nat) (57 : Int64)) ∈ lw_all := lw_g (lw_at lw_m13 69 rfl) rfl
theorem q3112 : (Jvm.Cond.fieldLink "EchoFair$Parser" (80 : Nat) "EchoFair$TokenKind" "NUMBER" "LEchoFair$TokenKind;") ∈ lw_all := lw_g (lw_at lw_m13 70 rfl) rfl
theorem q3114 : (Jvm.Cond.fieldLink "EchoFair$Parser" (86 : Nat) "EchoFair$TokenKind" "OTHER" "LEchoFair$TokenKind;") ∈ lw_all := lw_g (lw_at lw_m13 72 rfl) rfl
theorem q3116 : (Jvm.Cond.fieldLink "EchoFair$Parser" (19 : Nat) "EchoFair$Parser" "end" "I") ∈ lw_all := lw_g (lw_at lw_m13 74 rfl) rfl
theorem q3117 : (Jvm.Cond.fieldLink "EchoFair$Parser" (35 : Nat) "EchoFair$Parser" "position" "I") ∈ lw_all := lw_g (lw_at lw_m13 75 rfl) rfl
theorem q3118 : (Jvm.Cond.fieldLink "EchoFair$Parser" (42 : Nat) "EchoFair$Parser" "start" "I") ∈ lw_all := lw_g (lw_at lw_m13 76 rfl) rfl
theorem q3119 : (Jvm.Cond.fieldLink "EchoFair$Parser" (83 : Nat) "EchoFair$Parser" "value" "I") ∈ lw_all := lw_g (lw_at lw_m13 77 rfl) rfl
theorem q3120 : (Jvm.Cond.fieldLink "EchoFair$Parser" (24 : Nat) "EchoFair$Parser" "word" "Ljava/lang/String;") ∈ lw_all := lw_g (lw_at lw_m13 78 rfl) rfl
theorem q3121 : (Jvm.Cond.fieldLink "EchoFair$Parser" (51 : Nat) "EchoFair$Parser" "kind" "LEchoFair$TokenKind;") ∈ lw_all := lw_g (lw_at lw_m13 79 rfl) rfl
theorem q3122 : (Jvm.Cond.fieldLink "EchoFair$Parser" (3 : Nat) "EchoFair$Parser" "this$0" "LEchoFair;") ∈ lw_all := lw_g (lw_at lw_m13 80 rfl) rfl
theorem q3123 : (Jvm.Cond.laysFinal "EchoFair$Parser" "EchoFair$Parser" "end" "I") ∈ lw_all := lw_g (lw_at lw_m13 81 rfl) rfl
theorem q3124 : (Jvm.Cond.soleField "EchoFair$Parser" "end") ∈ lw_all := lw_g (lw_at lw_m13 82 rfl) rfl
theorem q3125 : (Jvm.Cond.lays "EchoFair$Parser" "EchoFair$Parser" "position" "I") ∈ lw_all := lw_g (lw_at lw_m13 83 rfl) rfl
theorem q3126 : (Jvm.Cond.soleField "EchoFair$Parser" "position") ∈ lw_all := lw_g (lw_at lw_m13 84 rfl) rfl
theorem q3127 : (Jvm.Cond.lays "EchoFair$Parser" "EchoFair$Parser" "start" "I") ∈ lw_all := lw_g (lw_at lw_m13 85 rfl) rfl
theorem q3128 : (Jvm.Cond.soleField "EchoFair$Parser" "start") ∈ lw_all := lw_g (lw_at lw_m13 86 rfl) rfl
theorem q3129 : (Jvm.Cond.lays "EchoFair$Parser" "EchoFair$Parser" "value" "I") ∈ lw_all := lw_g (lw_at lw_m13 87 rfl) rfl
theorem q3130 : (Jvm.Cond.soleField "EchoFair$Parser" "value") ∈ lw_all := lw_g (lw_at lw_m13 88 rfl) rfl
theorem q3131 : (Jvm.Cond.lays "EchoFair$Parser" "EchoFair$Parser" "word" "Ljava/lang/String;") ∈ lw_all := lw_g (lw_at lw_m13 89 rfl) rfl
theorem q3132 : (Jvm.Cond.soleField "EchoFair$Parser" "word") ∈ lw_all := lw_g (lw_at lw_m13 90 rfl) rfl
theorem q3133 : (Jvm.Cond.lays "EchoFair$Parser" "EchoFair$Parser" "kind" "LEchoFair$TokenKind;") ∈ lw_all := lw_g (lw_at lw_m13 91 rfl) rfl
theorem q3134 : (Jvm.Cond.soleField "EchoFair$Parser" "kind") ∈ lw_all := lw_g (lw_at lw_m13 92 rfl) rfl
theorem q3135 : (Jvm.Cond.laysFinal "EchoFair$Parser" "EchoFair$Parser" "this$0" "LEchoFair;") ∈ lw_all := lw_g (lw_at lw_m13 93 rfl) rfl
theorem q3136 : (Jvm.Cond.soleField "EchoFair$Parser" "this$0") ∈ lw_all := lw_g (lw_at lw_m13 94 rfl) rfl
theorem q3137 : (Jvm.Cond.superclass "EchoFair$Parser" "java/lang/Object") ∈ lw_all := lw_g (lw_at lw_m13 95 rfl) rfl
theorem q3139 : (Jvm.Cond.instanceMethod ({ cls := "EchoFair$Parser", name := "configuration", desc := "()LEchoFair$State;" } : Jvm.MethodName)) ∈ lw_all := lw_g (lw_at lw_m13 97 rfl) rfl
theorem q3140 : (Jvm.Cond.selects "EchoFair$Parser" ({ cls := "EchoFair$Parser", name := "configuration", desc := "()LEchoFair$State;" } : Jvm.MethodName) ({ cls := "EchoFair$Parser", name := "configuration", desc := "()LEchoFair$State;" } : Jvm.MethodName)) ∈ lw_all := lw_g (lw_at lw_m13 98 rfl) rfl
theorem q3141 : (Jvm.Cond.code ({ cls := "EchoFair$Parser", name := "configuration", desc := "()LEchoFair$State;" } : Jvm.MethodName) prog_7_method_14_code (4 : Nat) (Option.some (Jvm.ClassFile.FieldType.object "EchoFair$State"))) ∈ lw_all := lw_g (lw_at lw_m13 99 rfl) rfl
theorem q3142 : (Jvm.Cond.stringRef "EchoFair$Parser" (127 : Nat) "fair") ∈ lw_tbl := lw_at lw_m13 100 rfl
theorem q3143 : (Jvm.Cond.methodLink "EchoFair$Parser" (129 : Nat) ({ cls := "EchoFair$Parser", name := "keyword", desc := "(Ljava/lang/String;)V" } : Jvm.MethodName)) ∈ lw_all := lw_g (lw_at lw_m13 101 rfl) rfl
theorem q3144 : (Jvm.Cond.privateMethod ({ cls := "EchoFair$Parser", name := "keyword", desc := "(Ljava/lang/String;)V" } : Jvm.MethodName)) ∈ lw_tbl := lw_at lw_m13 102 rfl
theorem q3145 : (Jvm.Cond.instanceMethod ({ cls := "EchoFair$Parser", name := "keyword", desc := "(Ljava/lang/String;)V" } : Jvm.MethodName)) ∈ lw_all := lw_g (lw_at lw_m13 103 rfl) rfl
theorem q3146 : (Jvm.Cond.code ({ cls := "EchoFair$Parser", name := "keyword", desc := "(Ljava/lang/String;)V" } : Jvm.MethodName) prog_7_method_7_code (2 : Nat) (Option.none : Option Jvm.ClassFile.FieldType)) ∈ lw_all := lw_g (lw_at lw_m13 104 rfl) rfl
theorem q3147 : (Jvm.Cond.methodLink "EchoFair$Parser" (102 : Nat) ({ cls := "java/lang/String", name := "equals", desc := "(Ljava/lang/Object;)Z" } : Jvm.MethodName)) ∈ lw_all := lw_g (lw_at lw_m13 105 rfl) rfl
theorem q3148 : (Jvm.Cond.methodLink "EchoFair$Parser" (94 : Nat) ({ cls := "EchoFair$Parser", name := "require", desc := "(ZI)V" } : Jvm.MethodName)) ∈ lw_all := lw_g (lw_at lw_m13 106 rfl) rfl
theorem q3149 : (Jvm.Cond.privateMethod ({ cls := "EchoFair$Parser", name := "require", desc := "(ZI)V" } : Jvm.MethodName)) ∈ lw_tbl := lw_at lw_m13 107 rfl
theorem q3150 : (Jvm.Cond.instanceMethod ({ cls := "EchoFair$Parser", name := "require", desc := "(ZI)V" } : Jvm.MethodName)) ∈ lw_all := lw_g (lw_at lw_m13 108 rfl) rfl
theorem q3151 : (Jvm.Cond.code ({ cls := "EchoFair$Parser", name := "require", desc := "(ZI)V" } : Jvm.MethodName) prog_7_method_4_code (3 : Nat) (Option.none : Option Jvm.ClassFile.FieldType)) ∈ lw_all := lw_g (lw_at lw_m13 109 rfl) rfl
theorem q3152 : (Jvm.Cond.classLink "EchoFair$Parser" (89 : Nat) "EchoFair$ParseError") ∈ lw_all := lw_g (lw_at lw_m13 110 rfl) rfl
theorem q3161 : (Jvm.Cond.methodLink "EchoFair$Parser" (91 : Nat) ({ cls := "EchoFair$ParseError", name := "<init>", desc := "(II)V" } : Jvm.MethodName)) ∈ lw_all := lw_g (lw_at lw_m13 119 rfl) rfl
theorem q3180 : (Jvm.Cond.methodLink "EchoFair$Parser" (133 : Nat) ({ cls := "EchoFair$Parser", name := "number", desc := "(II)I" } : Jvm.MethodName)) ∈ lw_all := lw_g (lw_at lw_m13 138 rfl) rfl
theorem q3181 : (Jvm.Cond.privateMethod ({ cls := "EchoFair$Parser", name := "number", desc := "(II)I" } : Jvm.MethodName)) ∈ lw_tbl := lw_at lw_m13 139 rfl
theorem q3182 : (Jvm.Cond.instanceMethod ({ cls := "EchoFair$Parser", name := "number", desc := "(II)I" } : Jvm.MethodName)) ∈ lw_all := lw_g (lw_at lw_m13 140 rfl) rfl
theorem q3183 : (Jvm.Cond.code ({ cls := "EchoFair$Parser", name := "number", desc := "(II)I" } : Jvm.MethodName) prog_7_method_6_code (4 : Nat) (Option.some Jvm.ClassFile.FieldType.int)) ∈ lw_all := lw_g (lw_at lw_m13 141 rfl) rfl
theorem q3184 : (Jvm.Cond.methodLink "EchoFair$Parser" (98 : Nat) ({ cls := "EchoFair$Parser", name := "peekNumber", desc := "(II)I" } : Jvm.MethodName)) ∈ lw_all := lw_g (lw_at lw_m13 142 rfl) rfl
theorem q3185 : (Jvm.Cond.privateMethod ({ cls := "EchoFair$Parser", name := "peekNumber", desc := "(II)I" } : Jvm.MethodName)) ∈ lw_tbl := lw_at lw_m13 143 rfl
theorem q3186 : (Jvm.Cond.instanceMethod ({ cls := "EchoFair$Parser", name := "peekNumber", desc := "(II)I" } : Jvm.MethodName)) ∈ lw_all := lw_g (lw_at lw_m13 144 rfl) rfl
theorem q3187 : (Jvm.Cond.code ({ cls := "EchoFair$Parser", name := "peekNumber", desc := "(II)I" } : Jvm.MethodName) prog_7_method_5_code (3 : Nat) (Option.some Jvm.ClassFile.FieldType.int)) ∈ lw_all := lw_g (lw_at lw_m13 145 rfl) rfl
theorem q3188 : (Jvm.Cond.methodLink "EchoFair$Parser" (136 : Nat) ({ cls := "EchoFair$Parser", name := "semicolon", desc := "()V" } : Jvm.MethodName)) ∈ lw_all := lw_g (lw_at lw_m13 146 rfl) rfl
theorem q3189 : (Jvm.Cond.privateMethod ({ cls := "EchoFair$Parser", name := "semicolon", desc := "()V" } : Jvm.MethodName)) ∈ lw_tbl := lw_at lw_m13 147 rfl
theorem q3190 : (Jvm.Cond.instanceMethod ({ cls := "EchoFair$Parser", name := "semicolon", desc := "()V" } : Jvm.MethodName)) ∈ lw_all := lw_g (lw_at lw_m13 148 rfl) rfl
theorem q3191 : (Jvm.Cond.code ({ cls := "EchoFair$Parser", name := "semicolon", desc := "()V" } : Jvm.MethodName) prog_7_method_13_code (1 : Nat) (Option.none : Option Jvm.ClassFile.FieldType)) ∈ lw_all := lw_g (lw_at lw_m13 149 rfl) rfl
theorem q3192 : (Jvm.Cond.classLink "EchoFair$Parser" (116 : Nat) "EchoFair$State") ∈ lw_all := lw_g (lw_at lw_m13 150 rfl) rfl
theorem q3193 : (Jvm.Cond.methodLink "EchoFair$Parser" (139 : Nat) ({ cls := "EchoFair$Parser", name := "fogs", desc := "()[I" } : Jvm.MethodName)) ∈ lw_all := lw_g (lw_at lw_m13 151 rfl) rfl
theorem q3194 : (Jvm.Cond.privateMethod ({ cls := "EchoFair$Parser", name := "fogs", desc := "()[I" } : Jvm.MethodName)) ∈ lw_tbl := lw_at lw_m13 152 rfl
theorem q3195 : (Jvm.Cond.instanceMethod ({ cls := "EchoFair$Parser", name := "fogs", desc := "()[I" } : Jvm.MethodName)) ∈ lw_all := lw_g (lw_at lw_m13 153 rfl) rfl
theorem q3196 : (Jvm.Cond.code ({ cls := "EchoFair$Parser", name := "fogs", desc := "()[I" } : Jvm.MethodName) prog_7_method_15_code (4 : Nat) (Option.some (Jvm.ClassFile.FieldType.array Jvm.ClassFile.FieldType.int))) ∈ lw_all := lw_g (lw_at lw_m13 154 rfl) rfl
theorem q3197 : (Jvm.Cond.stringRef "EchoFair$Parser" (176 : Nat) "fog") ∈ lw_tbl := lw_at lw_m13 155 rfl
theorem q3198 : (Jvm.Cond.methodLink "EchoFair$Parser" (178 : Nat) ({ cls := "java/lang/System", name := "arraycopy", desc := "(Ljava/lang/Object;ILjava/lang/Object;II)V" } : Jvm.MethodName)) ∈ lw_all := lw_g (lw_at lw_m13 156 rfl) rfl
theorem q3199 : (Jvm.Cond.methodLink "EchoFair$Parser" (143 : Nat) ({ cls := "EchoFair$State", name := "<init>", desc := "(I[I)V" } : Jvm.MethodName)) ∈ lw_all := lw_g (lw_at lw_m13 157 rfl) rfl
theorem q3200 : (Jvm.Cond.methodLink "EchoFair$Parser" (146 : Nat) ({ cls := "EchoFair$Parser", name := "statement", desc := "(LEchoFair$State;)V" } : Jvm.MethodName)) ∈ lw_all := lw_g (lw_at lw_m13 158 rfl) rfl
theorem q3201 : (Jvm.Cond.privateMethod ({ cls := "EchoFair$Parser", name := "statement", desc := "(LEchoFair$State;)V" } : Jvm.MethodName)) ∈ lw_tbl := lw_at lw_m13 159 rfl
theorem q3202 : (Jvm.Cond.instanceMethod ({ cls := "EchoFair$Parser", name := "statement", desc := "(LEchoFair$State;)V" } : Jvm.MethodName)) ∈ lw_all := lw_g (lw_at lw_m13 160 rfl) rfl
theorem q3203 : (Jvm.Cond.code ({ cls := "EchoFair$Parser", name := "statement", desc := "(LEchoFair$State;)V" } : Jvm.MethodName) prog_7_method_16_code (4 : Nat) (Option.none : Option Jvm.ClassFile.FieldType)) ∈ lw_all := lw_g (lw_at lw_m13 161 rfl) rfl
theorem q3204 : (Jvm.Cond.methodLink "EchoFair$Parser" (184 : Nat) ({ cls := "java/lang/String", name := "hashCode", desc := "()I" } : Jvm.MethodName)) ∈ lw_all := lw_g (lw_at lw_m13 162 rfl) rfl
theorem q3205 : (Jvm.Cond.stringRef "EchoFair$Parser" (187 : Nat) "echo") ∈ lw_tbl := lw_at lw_m13 163 rfl
theorem q3206 : (Jvm.Cond.stringRef "EchoFair$Parser" (189 : Nat) "valley") ∈ lw_tbl := lw_at lw_m13 164 rfl
theorem q3207 : (Jvm.Cond.stringRef "EchoFair$Parser" (190 : Nat) "tested") ∈ lw_tbl := lw_at lw_m13 165 rfl
theorem q3208 : (Jvm.Cond.methodLink "EchoFair$Parser" (192 : Nat) ({ cls := "EchoFair$Parser", name := "newEcho", desc := "(LEchoFair$State;)V" } : Jvm.MethodName)) ∈ lw_all := lw_g (lw_at lw_m13 166 rfl) rfl
theorem q3209 : (Jvm.Cond.privateMethod ({ cls := "EchoFair$Parser", name := "newEcho", desc := "(LEchoFair$State;)V" } : Jvm.MethodName)) ∈ lw_tbl := lw_at lw_m13 167 rfl
theorem q3210 : (Jvm.Cond.instanceMethod ({ cls := "EchoFair$Parser", name := "newEcho", desc := "(LEchoFair$State;)V" } : Jvm.MethodName)) ∈ lw_all := lw_g (lw_at lw_m13 168 rfl) rfl
theorem q3211 : (Jvm.Cond.code ({ cls := "EchoFair$Parser", name := "newEcho", desc := "(LEchoFair$State;)V" } : Jvm.MethodName) prog_7_method_17_code (7 : Nat) (Option.none : Option Jvm.ClassFile.FieldType)) ∈ lw_all := lw_g (lw_at lw_m13 169 rfl) rfl
theorem q3212 : (Jvm.Cond.interfaceEntry "EchoFair$Parser" (163 : Nat)) ∈ lw_tbl := lw_at lw_m13 170 rfl
theorem q3213 : (Jvm.Cond.methodLink "EchoFair$Parser" (163 : Nat) ({ cls := "java/util/List", name := "size", desc := "()I" } : Jvm.MethodName)) ∈ lw_all := lw_g (lw_at lw_m13 171 rfl) rfl
theorem q3214 : (Jvm.Cond.methodLink "EchoFair$Parser" (112 : Nat) ({ cls := "EchoFair$Parser", name := "peekName", desc := "()Ljava/lang/String;" } : Jvm.MethodName)) ∈ lw_all := lw_g (lw_at lw_m13 172 rfl) rfl
theorem q3215 : (Jvm.Cond.privateMethod ({ cls := "EchoFair$Parser", name := "peekName", desc := "()Ljava/lang/String;" } : Jvm.MethodName)) ∈ lw_tbl := lw_at lw_m13 173 rfl
theorem q3216 : (Jvm.Cond.instanceMethod ({ cls := "EchoFair$Parser", name := "peekName", desc := "()Ljava/lang/String;" } : Jvm.MethodName)) ∈ lw_all := lw_g (lw_at lw_m13 174 rfl) rfl
theorem q3217 : (Jvm.Cond.code ({ cls := "EchoFair$Parser", name := "peekName", desc := "()Ljava/lang/String;" } : Jvm.MethodName) prog_7_method_8_code (1 : Nat) (Option.some (Jvm.ClassFile.FieldType.object "java/lang/String"))) ∈ lw_all := lw_g (lw_at lw_m13 175 rfl) rfl
theorem q3218 : (Jvm.Cond.methodLink "EchoFair$Parser" (108 : Nat) ({ cls := "java/lang/String", name := "length", desc := "()I" } : Jvm.MethodName)) ∈ lw_all := lw_g (lw_at lw_m13 176 rfl) rfl
theorem q3219 : (Jvm.Cond.methodLink "EchoFair$Parser" (115 : Nat) ({ cls := "EchoFair$State", name := "echoNamed", desc := "(Ljava/lang/String;)I" } : Jvm.MethodName)) ∈ lw_all := lw_g (lw_at lw_m13 177 rfl) rfl
theorem q3220 : (Jvm.Cond.methodLink "EchoFair$Parser" (200 : Nat) ({ cls := "EchoFair$Parser", name := "newName", desc := "(ZLjava/lang/String;)Ljava/lang/String;" } : Jvm.MethodName)) ∈ lw_all := lw_g (lw_at lw_m13 178 rfl) rfl
theorem q3221 : (Jvm.Cond.privateMethod ({ cls := "EchoFair$Parser", name := "newName", desc := "(ZLjava/lang/String;)Ljava/lang/String;" } : Jvm.MethodName)) ∈ lw_tbl := lw_at lw_m13 179 rfl
theorem q3222 : (Jvm.Cond.instanceMethod ({ cls := "EchoFair$Parser", name := "newName", desc := "(ZLjava/lang/String;)Ljava/lang/String;" } : Jvm.MethodName)) ∈ lw_all := lw_g (lw_at lw_m13 180 rfl) rfl
theorem q3223 : (Jvm.Cond.code ({ cls := "EchoFair$Parser", name := "newName", desc := "(ZLjava/lang/String;)Ljava/lang/String;" } : Jvm.MethodName) prog_7_method_9_code (3 : Nat) (Option.some (Jvm.ClassFile.FieldType.object "java/lang/String"))) ∈ lw_all := lw_g (lw_at lw_m13 181 rfl) rfl
theorem q3224 : (Jvm.Cond.classLink "EchoFair$Parser" (204 : Nat) "EchoFair$Echo") ∈ lw_all := lw_g (lw_at lw_m13 182 rfl) rfl
theorem q3225 : (Jvm.Cond.methodLink "EchoFair$Parser" (206 : Nat) ({ cls := "EchoFair$Echo", name := "<init>", desc := "(Ljava/lang/String;IIII)V" } : Jvm.MethodName)) ∈ lw_all := lw_g (lw_at lw_m13 183 rfl) rfl
theorem q3226 : (Jvm.Cond.interfaceEntry "EchoFair$Parser" (209 : Nat)) ∈ lw_tbl := lw_at lw_m13 184 rfl
theorem q3227 : (Jvm.Cond.methodLink "EchoFair$Parser" (209 : Nat) ({ cls := "java/util/List", name := "add", desc := "(Ljava/lang/Object;)Z" } : Jvm.MethodName)) ∈ lw_all := lw_g (lw_at lw_m13 185 rfl) rfl
theorem q3228 : (Jvm.Cond.methodLink "EchoFair$Parser" (195 : Nat) ({ cls := "EchoFair$Parser", name := "newValley", desc := "(LEchoFair$State;)V" } : Jvm.MethodName)) ∈ lw_all := lw_g (lw_at lw_m13 186 rfl) rfl
theorem q3229 : (Jvm.Cond.privateMethod ({ cls := "EchoFair$Parser", name := "newValley", desc := "(LEchoFair$State;)V" } : Jvm.MethodName)) ∈ lw_tbl := lw_at lw_m13 187 rfl
theorem q3230 : (Jvm.Cond.instanceMethod ({ cls := "EchoFair$Parser", name := "newValley", desc := "(LEchoFair$State;)V" } : Jvm.MethodName)) ∈ lw_all := lw_g (lw_at lw_m13 188 rfl) rfl
theorem q3231 : (Jvm.Cond.code ({ cls := "EchoFair$Parser", name := "newValley", desc := "(LEchoFair$State;)V" } : Jvm.MethodName) prog_7_method_18_code (7 : Nat) (Option.none : Option Jvm.ClassFile.FieldType)) ∈ lw_all := lw_g (lw_at lw_m13 189 rfl) rfl
theorem q3232 : (Jvm.Cond.methodLink "EchoFair$Parser" (124 : Nat) ({ cls := "EchoFair$State", name := "valleyNamed", desc := "(Ljava/lang/String;)I" } : Jvm.MethodName)) ∈ lw_all := lw_g (lw_at lw_m13 190 rfl) rfl
theorem q3233 : (Jvm.Cond.classLink "EchoFair$Parser" (172 : Nat) "EchoFair$Valley") ∈ lw_all := lw_g (lw_at lw_m13 191 rfl) rfl
theorem q3234 : (Jvm.Cond.methodLink "EchoFair$Parser" (212 : Nat) ({ cls := "EchoFair$Valley", name := "<init>", desc := "(Ljava/lang/String;IIII)V" } : Jvm.MethodName)) ∈ lw_all := lw_g (lw_at lw_m13 192 rfl) rfl
theorem q3235 : (Jvm.Cond.methodLink "EchoFair$Parser" (198 : Nat) ({ cls := "EchoFair$Parser", name := "tested", desc := "(LEchoFair$State;)V" } : Jvm.MethodName)) ∈ lw_all := lw_g (lw_at lw_m13 193 rfl) rfl
theorem q3236 : (Jvm.Cond.privateMethod ({ cls := "EchoFair$Parser", name := "tested", desc := "(LEchoFair$State;)V" } : Jvm.MethodName)) ∈ lw_tbl := lw_at lw_m13 194 rfl
theorem q3237 : (Jvm.Cond.instanceMethod ({ cls := "EchoFair$Parser", name := "tested", desc := "(LEchoFair$State;)V" } : Jvm.MethodName)) ∈ lw_all := lw_g (lw_at lw_m13 195 rfl) rfl
theorem q3238 : (Jvm.Cond.code ({ cls := "EchoFair$Parser", name := "tested", desc := "(LEchoFair$State;)V" } : Jvm.MethodName) prog_7_method_19_code (3 : Nat) (Option.none : Option Jvm.ClassFile.FieldType)) ∈ lw_all := lw_g (lw_at lw_m13 196 rfl) rfl
theorem q3239 : (Jvm.Cond.methodLink "EchoFair$Parser" (213 : Nat) ({ cls := "EchoFair$Parser", name := "valley", desc := "(LEchoFair$State;)I" } : Jvm.MethodName)) ∈ lw_all := lw_g (lw_at lw_m13 197 rfl) rfl
theorem q3240 : (Jvm.Cond.privateMethod ({ cls := "EchoFair$Parser", name := "valley", desc := "(LEchoFair$State;)I" } : Jvm.MethodName)) ∈ lw_tbl := lw_at lw_m13 198 rfl
theorem q3241 : (Jvm.Cond.instanceMethod ({ cls := "EchoFair$Parser", name := "valley", desc := "(LEchoFair$State;)I" } : Jvm.MethodName)) ∈ lw_all := lw_g (lw_at lw_m13 199 rfl) rfl
theorem q3242 : (Jvm.Cond.code ({ cls := "EchoFair$Parser", name := "valley", desc := "(LEchoFair$State;)I" } : Jvm.MethodName) prog_7_method_12_code (2 : Nat) (Option.some Jvm.ClassFile.FieldType.int)) ∈ lw_all := lw_g (lw_at lw_m13 200 rfl) rfl
theorem q3243 : (Jvm.Cond.methodLink "EchoFair$Parser" (121 : Nat) ({ cls := "EchoFair$Parser", name := "known", desc := "(I)I" } : Jvm.MethodName)) ∈ lw_all := lw_g (lw_at lw_m13 201 rfl) rfl
theorem q3244 : (Jvm.Cond.privateMethod ({ cls := "EchoFair$Parser", name := "known", desc := "(I)I" } : Jvm.MethodName)) ∈ lw_tbl := lw_at lw_m13 202 rfl
theorem q3245 : (Jvm.Cond.instanceMethod ({ cls := "EchoFair$Parser", name := "known", desc := "(I)I" } : Jvm.MethodName)) ∈ lw_all := lw_g (lw_at lw_m13 203 rfl) rfl
theorem q3246 : (Jvm.Cond.code ({ cls := "EchoFair$Parser", name := "known", desc := "(I)I" } : Jvm.MethodName) prog_7_method_10_code (2 : Nat) (Option.some Jvm.ClassFile.FieldType.int)) ∈ lw_all := lw_g (lw_at lw_m13 204 rfl) rfl
theorem q3247 : (Jvm.Cond.methodLink "EchoFair$Parser" (167 : Nat) ({ cls := "EchoFair$State", name := "valley", desc := "(I)LEchoFair$Valley;" } : Jvm.MethodName)) ∈ lw_all := lw_g (lw_at lw_m13 205 rfl) rfl
theorem q3248 : (Jvm.Cond.methodLink "EchoFair$Parser" (219 : Nat) ({ cls := "EchoFair$Parser", name := "echo", desc := "(LEchoFair$State;)I" } : Jvm.MethodName)) ∈ lw_all := lw_g (lw_at lw_m13 206 rfl) rfl
theorem q3249 : (Jvm.Cond.privateMethod ({ cls := "EchoFair$Parser", name := "echo", desc := "(LEchoFair$State;)I" } : Jvm.MethodName)) ∈ lw_tbl := lw_at lw_m13 207 rfl
theorem q3250 : (Jvm.Cond.instanceMethod ({ cls := "EchoFair$Parser", name := "echo", desc := "(LEchoFair$State;)I" } : Jvm.MethodName)) ∈ lw_all := lw_g (lw_at lw_m13 208 rfl) rfl
theorem q3251 : (Jvm.Cond.code ({ cls := "EchoFair$Parser", name := "echo", desc := "(LEchoFair$State;)I" } : Jvm.MethodName) prog_7_method_11_code (2 : Nat) (Option.some Jvm.ClassFile.FieldType.int)) ∈ lw_all := lw_g (lw_at lw_m13 209 rfl) rfl
theorem q3252 : (Jvm.Cond.interfaceEntry "EchoFair$Parser" (154 : Nat)) ∈ lw_tbl := lw_at lw_m13 210 rfl
theorem q3253 : (Jvm.Cond.methodLink "EchoFair$Parser" (154 : Nat) ({ cls := "java/util/List", name := "isEmpty", desc := "()Z" } : Jvm.MethodName)) ∈ lw_all := lw_g (lw_at lw_m13 211 rfl) rfl
theorem q3284 : (Jvm.Cond.instanceMethod ({ cls := "EchoFair$Parser", name := "commands", desc := "()[LEchoFair$Operation;" } : Jvm.MethodName)) ∈ lw_all := lw_g (lw_at lw_m14 2 rfl) rfl
theorem q3285 : (Jvm.Cond.selects "EchoFair$Parser" ({ cls := "EchoFair$Parser", name := "commands", desc := "()[LEchoFair$Operation;" } : Jvm.MethodName) ({ cls := "EchoFair$Parser", name := "commands", desc := "()[LEchoFair$Operation;" } : Jvm.MethodName)) ∈ lw_all := lw_g (lw_at lw_m14 3 rfl) rfl
theorem q3286 : (Jvm.Cond.code ({ cls := "EchoFair$Parser", name := "commands", desc := "()[LEchoFair$Operation;" } : Jvm.MethodName) prog_7_method_20_code (3 : Nat) (Option.some (Jvm.ClassFile.FieldType.array (Jvm.ClassFile.FieldType.object "EchoFair$Operation")))) ∈ lw_all := lw_g (lw_at lw_m14 4 rfl) rfl
theorem q3287 : (Jvm.Cond.classLink "EchoFair$Parser" (221 : Nat) "EchoFair$Operation") ∈ lw_all := lw_g (lw_at lw_m14 5 rfl) rfl
theorem q3289 : (Jvm.Cond.methodLinkNest "EchoFair$Parser" (223 : Nat) ({ cls := "EchoFair", name := "isCommand", desc := "(Ljava/lang/String;)Z" } : Jvm.MethodName) "EchoFair") ∈ lw_tbl := lw_at lw_m14 7 rfl
theorem q3301 : (Jvm.Cond.methodLink "EchoFair$Parser" (227 : Nat) ({ cls := "EchoFair$Parser", name := "command", desc := "()LEchoFair$Operation;" } : Jvm.MethodName)) ∈ lw_all := lw_g (lw_at lw_m14 19 rfl) rfl
theorem q3302 : (Jvm.Cond.privateMethod ({ cls := "EchoFair$Parser", name := "command", desc := "()LEchoFair$Operation;" } : Jvm.MethodName)) ∈ lw_tbl := lw_at lw_m14 20 rfl
theorem q3303 : (Jvm.Cond.instanceMethod ({ cls := "EchoFair$Parser", name := "command", desc := "()LEchoFair$Operation;" } : Jvm.MethodName)) ∈ lw_all := lw_g (lw_at lw_m14 21 rfl) rfl
theorem q3304 : (Jvm.Cond.code ({ cls := "EchoFair$Parser", name := "command", desc := "()LEchoFair$Operation;" } : Jvm.MethodName) prog_7_method_21_code (4 : Nat) (Option.some (Jvm.ClassFile.FieldType.object "EchoFair$Operation"))) ∈ lw_all := lw_g (lw_at lw_m14 22 rfl) rfl
theorem q3305 : (Jvm.Cond.stringRef "EchoFair$Parser" (231 : Nat) "pass") ∈ lw_tbl := lw_at lw_m14 23 rfl
theorem q3306 : (Jvm.Cond.stringRef "EchoFair$Parser" (233 : Nat) "test") ∈ lw_tbl := lw_at lw_m14 24 rfl
theorem q3307 : (Jvm.Cond.stringRef "EchoFair$Parser" (235 : Nat) "dismiss") ∈ lw_tbl := lw_at lw_m14 25 rfl
theorem q3308 : (Jvm.Cond.stringRef "EchoFair$Parser" (237 : Nat) "wage") ∈ lw_tbl := lw_at lw_m14 26 rfl
theorem q3309 : (Jvm.Cond.stringRef "EchoFair$Parser" (239 : Nat) "fund") ∈ lw_tbl := lw_at lw_m14 27 rfl
theorem q3310 : (Jvm.Cond.methodLink "EchoFair$Parser" (241 : Nat) ({ cls := "EchoFair$Parser", name := "passCommand", desc := "(I)LEchoFair$Operation;" } : Jvm.MethodName)) ∈ lw_all := lw_g (lw_at lw_m14 28 rfl) rfl
theorem q3311 : (Jvm.Cond.privateMethod ({ cls := "EchoFair$Parser", name := "passCommand", desc := "(I)LEchoFair$Operation;" } : Jvm.MethodName)) ∈ lw_tbl := lw_at lw_m14 29 rfl
theorem q3312 : (Jvm.Cond.instanceMethod ({ cls := "EchoFair$Parser", name := "passCommand", desc := "(I)LEchoFair$Operation;" } : Jvm.MethodName)) ∈ lw_all := lw_g (lw_at lw_m14 30 rfl) rfl
theorem q3313 : (Jvm.Cond.code ({ cls := "EchoFair$Parser", name := "passCommand", desc := "(I)LEchoFair$Operation;" } : Jvm.MethodName) prog_7_method_22_code (2 : Nat) (Option.some (Jvm.ClassFile.FieldType.object "EchoFair$Operation"))) ∈ lw_all := lw_g (lw_at lw_m14 31 rfl) rfl
theorem q3314 : (Jvm.Cond.static ({ cls := "EchoFair$Parser", name := "lambda$passCommand$1", desc := "(ILEchoFair$State;)I" } : Jvm.MethodName)) ∈ lw_all := lw_g (lw_at lw_m14 32 rfl) rfl
theorem q3315 : (Jvm.Cond.code ({ cls := "EchoFair$Parser", name := "lambda$passCommand$1", desc := "(ILEchoFair$State;)I" } : Jvm.MethodName) prog_7_method_33_code (2 : Nat) (Option.some Jvm.ClassFile.FieldType.int)) ∈ lw_all := lw_g (lw_at lw_m14 33 rfl) rfl
theorem q3316 : (Jvm.Cond.methodLink "EchoFair$Parser" (288 : Nat) ({ cls := "EchoFair$State", name := "passDays", desc := "(I)I" } : Jvm.MethodName)) ∈ lw_all := lw_g (lw_at lw_m14 34 rfl) rfl
theorem q3397 : (Jvm.Cond.static ({ cls := "EchoFair$Parser", name := "lambda$command$0", desc := "(LEchoFair$State;)I" } : Jvm.MethodName)) ∈ lw_all := lw_g (lw_at lw_m14 115 rfl) rfl
theorem q3398 : (Jvm.Cond.code ({ cls := "EchoFair$Parser", name := "lambda$command$0", desc := "(LEchoFair$State;)I" } : Jvm.MethodName) prog_7_method_34_code (1 : Nat) (Option.some Jvm.ClassFile.FieldType.int)) ∈ lw_all := lw_g (lw_at lw_m14 116 rfl) rfl
theorem q3399 : (Jvm.Cond.methodLink "EchoFair$Parser" (291 : Nat) ({ cls := "EchoFair$State", name := "fair", desc := "()I" } : Jvm.MethodName)) ∈ lw_all := lw_g (lw_at lw_m14 117 rfl) rfl
theorem q3400 : (Jvm.Cond.methodLink "EchoFair$Parser" (252 : Nat) ({ cls := "EchoFair$Parser", name := "testCommand", desc := "(I)LEchoFair$Operation;" } : Jvm.MethodName)) ∈ lw_all := lw_g (lw_at lw_m14 118 rfl) rfl
theorem q3401 : (Jvm.Cond.privateMethod ({ cls := "EchoFair$Parser", name := "testCommand", desc := "(I)LEchoFair$Operation;" } : Jvm.MethodName)) ∈ lw_tbl := lw_at lw_m14 119 rfl
theorem q3402 : (Jvm.Cond.instanceMethod ({ cls := "EchoFair$Parser", name := "testCommand", desc := "(I)LEchoFair$Operation;" } : Jvm.MethodName)) ∈ lw_all := lw_g (lw_at lw_m14 120 rfl) rfl
theorem q3403 : (Jvm.Cond.code ({ cls := "EchoFair$Parser", name := "testCommand", desc := "(I)LEchoFair$Operation;" } : Jvm.MethodName) prog_7_method_23_code (3 : Nat) (Option.some (Jvm.ClassFile.FieldType.object "EchoFair$Operation"))) ∈ lw_all := lw_g (lw_at lw_m14 121 rfl) rfl
theorem q3404 : (Jvm.Cond.static ({ cls := "EchoFair$Parser", name := "lambda$testCommand$2", desc := "(IILEchoFair$State;)I" } : Jvm.MethodName)) ∈ lw_all := lw_g (lw_at lw_m14 122 rfl) rfl
theorem q3405 : (Jvm.Cond.code ({ cls := "EchoFair$Parser", name := "lambda$testCommand$2", desc := "(IILEchoFair$State;)I" } : Jvm.MethodName) prog_7_method_32_code (3 : Nat) (Option.some Jvm.ClassFile.FieldType.int)) ∈ lw_all := lw_g (lw_at lw_m14 123 rfl) rfl
theorem q3406 : (Jvm.Cond.methodLink "EchoFair$Parser" (286 : Nat) ({ cls := "EchoFair$State", name := "test", desc := "(II)I" } : Jvm.MethodName)) ∈ lw_all := lw_g (lw_at lw_m14 124 rfl) rfl
theorem q3411 : (Jvm.Cond.methodLink "EchoFair$Parser" (255 : Nat) ({ cls := "EchoFair$Parser", name := "dismissCommand", desc := "(I)LEchoFair$Operation;" } : Jvm.MethodName)) ∈ lw_all := lw_g (lw_at lw_m14 129 rfl) rfl
theorem q3412 : (Jvm.Cond.privateMethod ({ cls := "EchoFair$Parser", name := "dismissCommand", desc := "(I)LEchoFair$Operation;" } : Jvm.MethodName)) ∈ lw_tbl := lw_at lw_m14 130 rfl
theorem q3413 : (Jvm.Cond.instanceMethod ({ cls := "EchoFair$Parser", name := "dismissCommand", desc := "(I)LEchoFair$Operation;" } : Jvm.MethodName)) ∈ lw_all := lw_g (lw_at lw_m14 131 rfl) rfl
theorem q3414 : (Jvm.Cond.code ({ cls := "EchoFair$Parser", name := "dismissCommand", desc := "(I)LEchoFair$Operation;" } : Jvm.MethodName) prog_7_method_24_code (2 : Nat) (Option.some (Jvm.ClassFile.FieldType.object "EchoFair$Operation"))) ∈ lw_all := lw_g (lw_at lw_m14 132 rfl) rfl
theorem q3415 : (Jvm.Cond.static ({ cls := "EchoFair$Parser", name := "lambda$dismissCommand$3", desc := "(ILEchoFair$State;)I" } : Jvm.MethodName)) ∈ lw_all := lw_g (lw_at lw_m14 133 rfl) rfl
theorem q3416 : (Jvm.Cond.code ({ cls := "EchoFair$Parser", name := "lambda$dismissCommand$3", desc := "(ILEchoFair$State;)I" } : Jvm.MethodName) prog_7_method_31_code (2 : Nat) (Option.some Jvm.ClassFile.FieldType.int)) ∈ lw_all := lw_g (lw_at lw_m14 134 rfl) rfl
theorem q3417 : (Jvm.Cond.methodLink "EchoFair$Parser" (284 : Nat) ({ cls := "EchoFair$State", name := "dismiss", desc := "(I)I" } : Jvm.MethodName)) ∈ lw_all := lw_g (lw_at lw_m14 135 rfl) rfl
theorem q3421 : (Jvm.Cond.methodLink "EchoFair$Parser" (258 : Nat) ({ cls := "EchoFair$Parser", name := "wageCommand", desc := "(I)LEchoFair$Operation;" } : Jvm.MethodName)) ∈ lw_all := lw_g (lw_at lw_m14 139 rfl) rfl
theorem q3422 : (Jvm.Cond.privateMethod ({ cls := "EchoFair$Parser", name := "wageCommand", desc := "(I)LEchoFair$Operation;" } : Jvm.MethodName)) ∈ lw_tbl := lw_at lw_m14 140 rfl
theorem q3423 : (Jvm.Cond.instanceMethod ({ cls := "EchoFair$Parser", name := "wageCommand", desc := "(I)LEchoFair$Operation;" } : Jvm.MethodName)) ∈ lw_all := lw_g (lw_at lw_m14 141 rfl) rfl
theorem q3424 : (Jvm.Cond.code ({ cls := "EchoFair$Parser", name := "wageCommand", desc := "(I)LEchoFair$Operation;" } : Jvm.MethodName) prog_7_method_25_code (3 : Nat) (Option.some (Jvm.ClassFile.FieldType.object "EchoFair$Operation"))) ∈ lw_all := lw_g (lw_at lw_m14 142 rfl) rfl
theorem q3425 : (Jvm.Cond.static ({ cls := "EchoFair$Parser", name := "lambda$wageCommand$4", desc := "(IILEchoFair$State;)I" } : Jvm.MethodName)) ∈ lw_all := lw_g (lw_at lw_m14 143 rfl) rfl
theorem q3426 : (Jvm.Cond.code ({ cls := "EchoFair$Parser", name := "lambda$wageCommand$4", desc := "(IILEchoFair$State;)I" } : Jvm.MethodName) prog_7_method_30_code (3 : Nat) (Option.some Jvm.ClassFile.FieldType.int)) ∈ lw_all := lw_g (lw_at lw_m14 144 rfl) rfl
theorem q3427 : (Jvm.Cond.methodLink "EchoFair$Parser" (281 : Nat) ({ cls := "EchoFair$State", name := "setWage", desc := "(II)I" } : Jvm.MethodName)) ∈ lw_all := lw_g (lw_at lw_m14 145 rfl) rfl
theorem q3431 : (Jvm.Cond.methodLink "EchoFair$Parser" (261 : Nat) ({ cls := "EchoFair$Parser", name := "fundCommand", desc := "(I)LEchoFair$Operation;" } : Jvm.MethodName)) ∈ lw_all := lw_g (lw_at lw_m14 149 rfl) rfl
theorem q3432 : (Jvm.Cond.privateMethod ({ cls := "EchoFair$Parser", name := "fundCommand", desc := "(I)LEchoFair$Operation;" } : Jvm.MethodName)) ∈ lw_tbl := lw_at lw_m14 150 rfl
theorem q3433 : (Jvm.Cond.instanceMethod ({ cls := "EchoFair$Parser", name := "fundCommand", desc := "(I)LEchoFair$Operation;" } : Jvm.MethodName)) ∈ lw_all := lw_g (lw_at lw_m14 151 rfl) rfl
theorem q3434 : (Jvm.Cond.code ({ cls := "EchoFair$Parser", name := "fundCommand", desc := "(I)LEchoFair$Operation;" } : Jvm.MethodName) prog_7_method_26_code (3 : Nat) (Option.some (Jvm.ClassFile.FieldType.object "EchoFair$Operation"))) ∈ lw_all := lw_g (lw_at lw_m14 152 rfl) rfl
theorem q3435 : (Jvm.Cond.static ({ cls := "EchoFair$Parser", name := "lambda$fundCommand$5", desc := "(IILEchoFair$State;)I" } : Jvm.MethodName)) ∈ lw_all := lw_g (lw_at lw_m14 153 rfl) rfl
theorem q3436 : (Jvm.Cond.code ({ cls := "EchoFair$Parser", name := "lambda$fundCommand$5", desc := "(IILEchoFair$State;)I" } : Jvm.MethodName) prog_7_method_29_code (3 : Nat) (Option.some Jvm.ClassFile.FieldType.int)) ∈ lw_all := lw_g (lw_at lw_m14 154 rfl) rfl
theorem q3437 : (Jvm.Cond.methodLink "EchoFair$Parser" (279 : Nat) ({ cls := "EchoFair$State", name := "fund", desc := "(II)I" } : Jvm.MethodName)) ∈ lw_all := lw_g (lw_at lw_m14 155 rfl) rfl
theorem q3441 : (Jvm.Cond.methodLink "EchoFair$Parser" (264 : Nat) ({ cls := "EchoFair$Parser", name := "trainCommand", desc := "(I)LEchoFair$Operation;" } : Jvm.MethodName)) ∈ lw_all := lw_g (lw_at lw_m14 159 rfl) rfl
theorem q3442 : (Jvm.Cond.privateMethod ({ cls := "EchoFair$Parser", name := "trainCommand", desc := "(I)LEchoFair$Operation;" } : Jvm.MethodName)) ∈ lw_tbl := lw_at lw_m14 160 rfl
theorem q3443 : (Jvm.Cond.instanceMethod ({ cls := "EchoFair$Parser", name := "trainCommand", desc := "(I)LEchoFair$Operation;" } : Jvm.MethodName)) ∈ lw_all := lw_g (lw_at lw_m14 161 rfl) rfl
theorem q3444 : (Jvm.Cond.code ({ cls := "EchoFair$Parser", name := "trainCommand", desc := "(I)LEchoFair$Operation;" } : Jvm.MethodName) prog_7_method_27_code (2 : Nat) (Option.some (Jvm.ClassFile.FieldType.object "EchoFair$Operation"))) ∈ lw_all := lw_g (lw_at lw_m14 162 rfl) rfl
theorem q3445 : (Jvm.Cond.static ({ cls := "EchoFair$Parser", name := "lambda$trainCommand$6", desc := "(ILEchoFair$State;)I" } : Jvm.MethodName)) ∈ lw_all := lw_g (lw_at lw_m14 163 rfl) rfl
theorem q3446 : (Jvm.Cond.code ({ cls := "EchoFair$Parser", name := "lambda$trainCommand$6", desc := "(ILEchoFair$State;)I" } : Jvm.MethodName) prog_7_method_28_code (2 : Nat) (Option.some Jvm.ClassFile.FieldType.int)) ∈ lw_all := lw_g (lw_at lw_m14 164 rfl) rfl
theorem q3447 : (Jvm.Cond.methodLink "EchoFair$Parser" (276 : Nat) ({ cls := "EchoFair$State", name := "train", desc := "(I)I" } : Jvm.MethodName)) ∈ lw_all := lw_g (lw_at lw_m14 165 rfl) rfl
theorem q4627 : (Jvm.Cond.castable "EchoFair$Parser" "java/lang/Object") ∈ lw_tbl := lw_at lw_m19 145 rfl
theorem q204 : (Jvm.Cond.initialized "EchoFair$ParseError") ∈ lw_all := lw_g (lw_at lw_m1 42 rfl) rfl
theorem q297 : (Jvm.Cond.selects "EchoFair$ParseError" ({ cls := "java/lang/Throwable", name := "fillInStackTrace", desc := "()Ljava/lang/Throwable;" } : Jvm.MethodName) ({ cls := "java/lang/Throwable", name := "fillInStackTrace", desc := "()Ljava/lang/Throwable;" } : Jvm.MethodName)) ∈ lw_all := lw_g (lw_at lw_m1 135 rfl) rfl
theorem q967 : (Jvm.Cond.selects "EchoFair$ParseError" ({ cls := "java/lang/Object", name := "toString", desc := "()Ljava/lang/String;" } : Jvm.MethodName) ({ cls := "java/lang/Throwable", name := "toString", desc := "()Ljava/lang/String;" } : Jvm.MethodName)) ∈ lw_all := lw_g (lw_at lw_m4 85 rfl) rfl
theorem q977 : (Jvm.Cond.selects "EchoFair$ParseError" ({ cls := "java/lang/Object", name := "getClass", desc := "()Ljava/lang/Class;" } : Jvm.MethodName) ({ cls := "java/lang/Object", name := "getClass", desc := "()Ljava/lang/Class;" } : Jvm.MethodName)) ∈ lw_all := lw_g (lw_at lw_m4 95 rfl) rfl
theorem q1017 : (Jvm.Cond.selects "EchoFair$ParseError" ({ cls := "java/lang/Throwable", name := "getLocalizedMessage", desc := "()Ljava/lang/String;" } : Jvm.MethodName) ({ cls := "java/lang/Throwable", name := "getLocalizedMessage", desc := "()Ljava/lang/String;" } : Jvm.MethodName)) ∈ lw_all := lw_g (lw_at lw_m4 135 rfl) rfl
theorem q1028 : (Jvm.Cond.selects "EchoFair$ParseError" ({ cls := "java/lang/Throwable", name := "getMessage", desc := "()Ljava/lang/String;" } : Jvm.MethodName) ({ cls := "java/lang/Throwable", name := "getMessage", desc := "()Ljava/lang/String;" } : Jvm.MethodName)) ∈ lw_all := lw_g (lw_at lw_m4 146 rfl) rfl
theorem q1648 : (Jvm.Cond.selects "EchoFair$ParseError" ({ cls := "java/lang/Object", name := "hashCode", desc := "()I" } : Jvm.MethodName) ({ cls := "java/lang/Object", name := "hashCode", desc := "()I" } : Jvm.MethodName)) ∈ lw_all := lw_g (lw_at lw_m7 46 rfl) rfl
theorem q1743 : (Jvm.Cond.selects "EchoFair$ParseError" ({ cls := "java/lang/Object", name := "equals", desc := "(Ljava/lang/Object;)Z" } : Jvm.MethodName) ({ cls := "java/lang/Object", name := "equals", desc := "(Ljava/lang/Object;)Z" } : Jvm.MethodName)) ∈ lw_all := lw_g (lw_at lw_m7 141 rfl) rfl
theorem q3153 : (Jvm.Cond.instantiable "EchoFair$ParseError" (8 : Nat)) ∈ lw_all := lw_g (lw_at lw_m13 111 rfl) rfl
theorem q3154 : (Jvm.Cond.castable "EchoFair$ParseError" "EchoFair$ParseError") ∈ lw_tbl := lw_at lw_m13 112 rfl
theorem q3155 : (Jvm.Cond.selects "EchoFair$ParseError" ({ cls := "java/lang/Throwable", name := "fillInStackTrace", desc := "(I)Ljava/lang/Throwable;" } : Jvm.MethodName) ({ cls := "java/lang/Throwable", name := "fillInStackTrace", desc := "(I)Ljava/lang/Throwable;" } : Jvm.MethodName)) ∈ lw_all := lw_g (lw_at lw_m13 113 rfl) rfl
theorem q3156 : (Jvm.Cond.lays "EchoFair$ParseError" "java/lang/Throwable" "cause" "Ljava/lang/Throwable;") ∈ lw_all := lw_g (lw_at lw_m13 114 rfl) rfl
theorem q3157 : (Jvm.Cond.lays "EchoFair$ParseError" "java/lang/Throwable" "stackTrace" "[Ljava/lang/StackTraceElement;") ∈ lw_all := lw_g (lw_at lw_m13 115 rfl) rfl
theorem q3158 : (Jvm.Cond.lays "EchoFair$ParseError" "java/lang/Throwable" "suppressedExceptions" "Ljava/util/List;") ∈ lw_all := lw_g (lw_at lw_m13 116 rfl) rfl
theorem q3159 : (Jvm.Cond.lays "EchoFair$ParseError" "java/lang/Throwable" "detailMessage" "Ljava/lang/String;") ∈ lw_all := lw_g (lw_at lw_m13 117 rfl) rfl
theorem q3160 : (Jvm.Cond.lays "EchoFair$ParseError" "java/lang/Throwable" "backtrace" "Ljava/lang/Object;") ∈ lw_all := lw_g (lw_at lw_m13 118 rfl) rfl
theorem q3162 : (Jvm.Cond.instanceMethod ({ cls := "EchoFair$ParseError", name := "<init>", desc := "(II)V" } : Jvm.MethodName)) ∈ lw_all := lw_g (lw_at lw_m13 120 rfl) rfl
theorem q3163 : (Jvm.Cond.code ({ cls := "EchoFair$ParseError", name := "<init>", desc := "(II)V" } : Jvm.MethodName) prog_6_method_1_code (3 : Nat) (Option.none : Option Jvm.ClassFile.FieldType)) ∈ lw_all := lw_g (lw_at lw_m13 121 rfl) rfl
theorem q3164 : (Jvm.Cond.methodLink "EchoFair$ParseError" (1 : Nat) ({ cls := "java/lang/Exception", name := "<init>", desc := "(Ljava/lang/String;Ljava/lang/Throwable;ZZ)V" } : Jvm.MethodName)) ∈ lw_all := lw_g (lw_at lw_m13 122 rfl) rfl
theorem q3170 : (Jvm.Cond.fieldLink "EchoFair$ParseError" (7 : Nat) "EchoFair$ParseError" "code" "I") ∈ lw_all := lw_g (lw_at lw_m13 128 rfl) rfl
theorem q3172 : (Jvm.Cond.fieldLink "EchoFair$ParseError" (13 : Nat) "EchoFair$ParseError" "position" "I") ∈ lw_all := lw_g (lw_at lw_m13 130 rfl) rfl
theorem q3174 : (Jvm.Cond.laysFinal "EchoFair$ParseError" "EchoFair$ParseError" "code" "I") ∈ lw_all := lw_g (lw_at lw_m13 132 rfl) rfl
theorem q3175 : (Jvm.Cond.soleField "EchoFair$ParseError" "code") ∈ lw_all := lw_g (lw_at lw_m13 133 rfl) rfl
theorem q3176 : (Jvm.Cond.laysFinal "EchoFair$ParseError" "EchoFair$ParseError" "position" "I") ∈ lw_all := lw_g (lw_at lw_m13 134 rfl) rfl
theorem q3177 : (Jvm.Cond.soleField "EchoFair$ParseError" "position") ∈ lw_all := lw_g (lw_at lw_m13 135 rfl) rfl
theorem q3178 : (Jvm.Cond.lays "EchoFair$ParseError" "java/lang/Throwable" "depth" "I") ∈ lw_all := lw_g (lw_at lw_m13 136 rfl) rfl
theorem q3179 : (Jvm.Cond.superclass "EchoFair$ParseError" "java/lang/Exception") ∈ lw_all := lw_g (lw_at lw_m13 137 rfl) rfl
theorem q4600 : (Jvm.Cond.castable "EchoFair$ParseError" "java/lang/Throwable") ∈ lw_tbl := lw_at lw_m19 118 rfl
theorem q4629 : (Jvm.Cond.castable "EchoFair$ParseError" "java/lang/Object") ∈ lw_tbl := lw_at lw_m19 147 rfl
theorem q206 : (Jvm.Cond.initialized "EchoFair$Matching") ∈ lw_all := lw_g (lw_at lw_m1 44 rfl) rfl
theorem q965 : (Jvm.Cond.selects "EchoFair$Matching" ({ cls := "java/lang/Object", name := "toString", desc := "()Ljava/lang/String;" } : Jvm.MethodName) ({ cls := "java/lang/Object", name := "toString", desc := "()Ljava/lang/String;" } : Jvm.MethodName)) ∈ lw_all := lw_g (lw_at lw_m4 83 rfl) rfl
theorem q975 : (Jvm.Cond.selects "EchoFair$Matching" ({ cls := "java/lang/Object", name := "getClass", desc := "()Ljava/lang/Class;" } : Jvm.MethodName) ({ cls := "java/lang/Object", name := "getClass", desc := "()Ljava/lang/Class;" } : Jvm.MethodName)) ∈ lw_all := lw_g (lw_at lw_m4 93 rfl) rfl
theorem q1202 : (Jvm.Cond.fieldLinkNest "EchoFair$Matching" (15 : Nat) "EchoFair$State" "echoes" "Ljava/util/List;" "EchoFair") ∈ lw_tbl := lw_at lw_m5 80 rfl
theorem q1206 : (Jvm.Cond.fieldLinkNest "EchoFair$Matching" (30 : Nat) "EchoFair$State" "valleys" "Ljava/util/List;" "EchoFair") ∈ lw_tbl := lw_at lw_m5 84 rfl
theorem q1269 : (Jvm.Cond.fieldLinkNest "EchoFair$Matching" (80 : Nat) "EchoFair$Echo" "reserve" "I" "EchoFair") ∈ lw_tbl := lw_at lw_m5 147 rfl
theorem q1286 : (Jvm.Cond.fieldLinkNest "EchoFair$Matching" (104 : Nat) "EchoFair$Echo" "employer" "I" "EchoFair") ∈ lw_tbl := lw_at lw_m5 164 rfl
theorem q1375 : (Jvm.Cond.fieldLinkNest "EchoFair$Matching" (59 : Nat) "EchoFair$Valley" "wage" "I" "EchoFair") ∈ lw_tbl := lw_at lw_m6 13 rfl
theorem q1644 : (Jvm.Cond.selects "EchoFair$Matching" ({ cls := "java/lang/Object", name := "hashCode", desc := "()I" } : Jvm.MethodName) ({ cls := "java/lang/Object", name := "hashCode", desc := "()I" } : Jvm.MethodName)) ∈ lw_all := lw_g (lw_at lw_m7 42 rfl) rfl
theorem q1738 : (Jvm.Cond.selects "EchoFair$Matching" ({ cls := "java/lang/Object", name := "equals", desc := "(Ljava/lang/Object;)Z" } : Jvm.MethodName) ({ cls := "java/lang/Object", name := "equals", desc := "(Ljava/lang/Object;)Z" } : Jvm.MethodName)) ∈ lw_all := lw_g (lw_at lw_m7 136 rfl) rfl
theorem q2214 : (Jvm.Cond.instantiable "EchoFair$Matching" (9 : Nat)) ∈ lw_all := lw_g (lw_at lw_m9 132 rfl) rfl
theorem q2216 : (Jvm.Cond.instanceMethod ({ cls := "EchoFair$Matching", name := "<init>", desc := "(LEchoFair$State;)V" } : Jvm.MethodName)) ∈ lw_all := lw_g (lw_at lw_m9 134 rfl) rfl
theorem q2217 : (Jvm.Cond.code ({ cls := "EchoFair$Matching", name := "<init>", desc := "(LEchoFair$State;)V" } : Jvm.MethodName) prog_3_method_1_code (4 : Nat) (Option.none : Option Jvm.ClassFile.FieldType)) ∈ lw_all := lw_g (lw_at lw_m9 135 rfl) rfl
theorem q2218 : (Jvm.Cond.methodLink "EchoFair$Matching" (3 : Nat) ({ cls := "java/lang/Object", name := "<init>", desc := "()V" } : Jvm.MethodName)) ∈ lw_all := lw_g (lw_at lw_m9 136 rfl) rfl
theorem q2219 : (Jvm.Cond.interfaceEntry "EchoFair$Matching" (21 : Nat)) ∈ lw_tbl := lw_at lw_m9 137 rfl
theorem q2220 : (Jvm.Cond.methodLink "EchoFair$Matching" (21 : Nat) ({ cls := "java/util/List", name := "size", desc := "()I" } : Jvm.MethodName)) ∈ lw_all := lw_g (lw_at lw_m9 138 rfl) rfl
theorem q2221 : (Jvm.Cond.methodLink "EchoFair$Matching" (55 : Nat) ({ cls := "EchoFair$State", name := "valley", desc := "(I)LEchoFair$Valley;" } : Jvm.MethodName)) ∈ lw_all := lw_g (lw_at lw_m9 139 rfl) rfl
theorem q2222 : (Jvm.Cond.methodLink "EchoFair$Matching" (64 : Nat) ({ cls := "EchoFair$State", name := "seenScore", desc := "(II)I" } : Jvm.MethodName)) ∈ lw_all := lw_g (lw_at lw_m9 140 rfl) rfl
theorem q2223 : (Jvm.Cond.methodLink "EchoFair$Matching" (68 : Nat) ({ cls := "EchoFair$State", name := "hasDeserted", desc := "(II)Z" } : Jvm.MethodName)) ∈ lw_all := lw_g (lw_at lw_m9 141 rfl) rfl
theorem q2224 : (Jvm.Cond.fieldLink "EchoFair$Matching" (9 : Nat) "EchoFair$Matching" "state" "LEchoFair$State;") ∈ lw_all := lw_g (lw_at lw_m9 142 rfl) rfl
theorem q2225 : (Jvm.Cond.fieldLink "EchoFair$Matching" (27 : Nat) "EchoFair$Matching" "echoes" "I") ∈ lw_all := lw_g (lw_at lw_m9 143 rfl) rfl
theorem q2226 : (Jvm.Cond.fieldLink "EchoFair$Matching" (33 : Nat) "EchoFair$Matching" "valleys" "I") ∈ lw_all := lw_g (lw_at lw_m9 144 rfl) rfl
theorem q2227 : (Jvm.Cond.fieldLink "EchoFair$Matching" (35 : Nat) "EchoFair$Matching" "scores" "[I") ∈ lw_all := lw_g (lw_at lw_m9 145 rfl) rfl
theorem q2228 : (Jvm.Cond.fieldLink "EchoFair$Matching" (46 : Nat) "EchoFair$Matching" "wages" "[I") ∈ lw_all := lw_g (lw_at lw_m9 146 rfl) rfl
theorem q2229 : (Jvm.Cond.fieldLink "EchoFair$Matching" (49 : Nat) "EchoFair$Matching" "kept" "[I") ∈ lw_all := lw_g (lw_at lw_m9 147 rfl) rfl
theorem q2230 : (Jvm.Cond.fieldLink "EchoFair$Matching" (52 : Nat) "EchoFair$Matching" "keptCount" "[I") ∈ lw_all := lw_g (lw_at lw_m9 148 rfl) rfl
theorem q2231 : (Jvm.Cond.fieldLink "EchoFair$Matching" (39 : Nat) "EchoFair$Matching" "barred" "[Z") ∈ lw_all := lw_g (lw_at lw_m9 149 rfl) rfl
theorem q2232 : (Jvm.Cond.fieldLink "EchoFair$Matching" (43 : Nat) "EchoFair$Matching" "closed" "[Z") ∈ lw_all := lw_g (lw_at lw_m9 150 rfl) rfl
theorem q2233 : (Jvm.Cond.laysFinal "EchoFair$Matching" "EchoFair$Matching" "state" "LEchoFair$State;") ∈ lw_all := lw_g (lw_at lw_m9 151 rfl) rfl
theorem q2234 : (Jvm.Cond.soleField "EchoFair$Matching" "state") ∈ lw_all := lw_g (lw_at lw_m9 152 rfl) rfl
theorem q2235 : (Jvm.Cond.laysFinal "EchoFair$Matching" "EchoFair$Matching" "echoes" "I") ∈ lw_all := lw_g (lw_at lw_m9 153 rfl) rfl
theorem q2236 : (Jvm.Cond.soleField "EchoFair$Matching" "echoes") ∈ lw_all := lw_g (lw_at lw_m9 154 rfl) rfl
theorem q2237 : (Jvm.Cond.laysFinal "EchoFair$Matching" "EchoFair$Matching" "valleys" "I") ∈ lw_all := lw_g (lw_at lw_m9 155 rfl) rfl
theorem q2238 : (Jvm.Cond.soleField "EchoFair$Matching" "valleys") ∈ lw_all := lw_g (lw_at lw_m9 156 rfl) rfl
theorem q2239 : (Jvm.Cond.laysFinal "EchoFair$Matching" "EchoFair$Matching" "scores" "[I") ∈ lw_all := lw_g (lw_at lw_m9 157 rfl) rfl
theorem q2240 : (Jvm.Cond.soleField "EchoFair$Matching" "scores") ∈ lw_all := lw_g (lw_at lw_m9 158 rfl) rfl
theorem q2241 : (Jvm.Cond.laysFinal "EchoFair$Matching" "EchoFair$Matching" "wages" "[I") ∈ lw_all := lw_g (lw_at lw_m9 159 rfl) rfl
theorem q2242 : (Jvm.Cond.soleField "EchoFair$Matching" "wages") ∈ lw_all := lw_g (lw_at lw_m9 160 rfl) rfl
theorem q2243 : (Jvm.Cond.laysFinal "EchoFair$Matching" "EchoFair$Matching" "kept" "[I") ∈ lw_all := lw_g (lw_at lw_m9 161 rfl) rfl
theorem q2244 : (Jvm.Cond.soleField "EchoFair$Matching" "kept") ∈ lw_all := lw_g (lw_at lw_m9 162 rfl) rfl
theorem q2245 : (Jvm.Cond.laysFinal "EchoFair$Matching" "EchoFair$Matching" "keptCount" "[I") ∈ lw_all := lw_g (lw_at lw_m9 163 rfl) rfl
theorem q2246 : (Jvm.Cond.soleField "EchoFair$Matching" "keptCount") ∈ lw_all := lw_g (lw_at lw_m9 164 rfl) rfl
theorem q2247 : (Jvm.Cond.laysFinal "EchoFair$Matching" "EchoFair$Matching" "barred" "[Z") ∈ lw_all := lw_g (lw_at lw_m9 165 rfl) rfl
theorem q2248 : (Jvm.Cond.soleField "EchoFair$Matching" "barred") ∈ lw_all := lw_g (lw_at lw_m9 166 rfl) rfl
theorem q2249 : (Jvm.Cond.laysFinal "EchoFair$Matching" "EchoFair$Matching" "closed" "[Z") ∈ lw_all := lw_g (lw_at lw_m9 167 rfl) rfl
theorem q2250 : (Jvm.Cond.soleField "EchoFair$Matching" "closed") ∈ lw_all := lw_g (lw_at lw_m9 168 rfl) rfl
theorem q2251 : (Jvm.Cond.superclass "EchoFair$Matching" "java/lang/Object") ∈ lw_all := lw_g (lw_at lw_m9 169 rfl) rfl
theorem q2253 : (Jvm.Cond.instanceMethod ({ cls := "EchoFair$Matching", name := "result", desc := "()[I" } : Jvm.MethodName)) ∈ lw_all := lw_g (lw_at lw_m9 171 rfl) rfl
theorem q2254 : (Jvm.Cond.selects "EchoFair$Matching" ({ cls := "EchoFair$Matching", name := "result", desc := "()[I" } : Jvm.MethodName) ({ cls := "EchoFair$Matching", name := "result", desc := "()[I" } : Jvm.MethodName)) ∈ lw_all := lw_g (lw_at lw_m9 172 rfl) rfl
theorem q2255 : (Jvm.Cond.code ({ cls := "EchoFair$Matching", name := "result", desc := "()[I" } : Jvm.MethodName) prog_3_method_8_code (5 : Nat) (Option.some (Jvm.ClassFile.FieldType.array Jvm.ClassFile.FieldType.int))) ∈ lw_all := lw_g (lw_at lw_m9 173 rfl) rfl
theorem q2256 : (Jvm.Cond.methodLink "EchoFair$Matching" (96 : Nat) ({ cls := "EchoFair$Matching", name := "open", desc := "()V" } : Jvm.MethodName)) ∈ lw_all := lw_g (lw_at lw_m9 174 rfl) rfl
theorem q2257 : (Jvm.Cond.privateMethod ({ cls := "EchoFair$Matching", name := "open", desc := "()V" } : Jvm.MethodName)) ∈ lw_tbl := lw_at lw_m9 175 rfl
theorem q2258 : (Jvm.Cond.instanceMethod ({ cls := "EchoFair$Matching", name := "open", desc := "()V" } : Jvm.MethodName)) ∈ lw_all := lw_g (lw_at lw_m9 176 rfl) rfl
theorem q2259 : (Jvm.Cond.code ({ cls := "EchoFair$Matching", name := "open", desc := "()V" } : Jvm.MethodName) prog_3_method_3_code (4 : Nat) (Option.none : Option Jvm.ClassFile.FieldType)) ∈ lw_all := lw_g (lw_at lw_m9 177 rfl) rfl
theorem q2260 : (Jvm.Cond.methodLink "EchoFair$Matching" (76 : Nat) ({ cls := "EchoFair$State", name := "echo", desc := "(I)LEchoFair$Echo;" } : Jvm.MethodName)) ∈ lw_all := lw_g (lw_at lw_m9 178 rfl) rfl
theorem q2261 : (Jvm.Cond.classLink "EchoFair$Matching" (99 : Nat) "java/util/ArrayDeque") ∈ lw_all := lw_g (lw_at lw_m9 179 rfl) rfl
theorem q2262 : (Jvm.Cond.methodLink "EchoFair$Matching" (101 : Nat) ({ cls := "java/util/ArrayDeque", name := "<init>", desc := "(I)V" } : Jvm.MethodName)) ∈ lw_all := lw_g (lw_at lw_m9 180 rfl) rfl
theorem q2263 : (Jvm.Cond.methodLink "EchoFair$Matching" (107 : Nat) ({ cls := "java/lang/Integer", name := "valueOf", desc := "(I)Ljava/lang/Integer;" } : Jvm.MethodName)) ∈ lw_all := lw_g (lw_at lw_m9 181 rfl) rfl
theorem q2282 : (Jvm.Cond.methodLink "EchoFair$Matching" (113 : Nat) ({ cls := "java/util/ArrayDeque", name := "addLast", desc := "(Ljava/lang/Object;)V" } : Jvm.MethodName)) ∈ lw_all := lw_g (lw_at lw_m9 200 rfl) rfl
theorem q2304 : (Jvm.Cond.methodLink "EchoFair$Matching" (117 : Nat) ({ cls := "java/util/ArrayDeque", name := "isEmpty", desc := "()Z" } : Jvm.MethodName)) ∈ lw_all := lw_g (lw_at lw_m9 222 rfl) rfl
theorem q2308 : (Jvm.Cond.methodLink "EchoFair$Matching" (121 : Nat) ({ cls := "java/util/ArrayDeque", name := "removeFirst", desc := "()Ljava/lang/Object;" } : Jvm.MethodName)) ∈ lw_all := lw_g (lw_at lw_m9 226 rfl) rfl
theorem q2319 : (Jvm.Cond.classLink "EchoFair$Matching" (108 : Nat) "java/lang/Integer") ∈ lw_all := lw_g (lw_at lw_m9 237 rfl) rfl
theorem q2320 : (Jvm.Cond.methodLink "EchoFair$Matching" (125 : Nat) ({ cls := "java/lang/Integer", name := "intValue", desc := "()I" } : Jvm.MethodName)) ∈ lw_all := lw_g (lw_at lw_m9 238 rfl) rfl
theorem q2321 : (Jvm.Cond.methodLink "EchoFair$Matching" (128 : Nat) ({ cls := "EchoFair$Matching", name := "nextValley", desc := "(I)I" } : Jvm.MethodName)) ∈ lw_all := lw_g (lw_at lw_m9 239 rfl) rfl
theorem q2322 : (Jvm.Cond.privateMethod ({ cls := "EchoFair$Matching", name := "nextValley", desc := "(I)I" } : Jvm.MethodName)) ∈ lw_tbl := lw_at lw_m10 0 rfl
theorem q2323 : (Jvm.Cond.instanceMethod ({ cls := "EchoFair$Matching", name := "nextValley", desc := "(I)I" } : Jvm.MethodName)) ∈ lw_all := lw_g (lw_at lw_m10 1 rfl) rfl
theorem q2324 : (Jvm.Cond.code ({ cls := "EchoFair$Matching", name := "nextValley", desc := "(I)I" } : Jvm.MethodName) prog_3_method_4_code (4 : Nat) (Option.some Jvm.ClassFile.FieldType.int)) ∈ lw_all := lw_g (lw_at lw_m10 2 rfl) rfl
theorem q2325 : (Jvm.Cond.methodLink "EchoFair$Matching" (131 : Nat) ({ cls := "EchoFair$Matching", name := "apply", desc := "(II)I" } : Jvm.MethodName)) ∈ lw_all := lw_g (lw_at lw_m10 3 rfl) rfl
theorem q2326 : (Jvm.Cond.privateMethod ({ cls := "EchoFair$Matching", name := "apply", desc := "(II)I" } : Jvm.MethodName)) ∈ lw_tbl := lw_at lw_m10 4 rfl
theorem q2327 : (Jvm.Cond.instanceMethod ({ cls := "EchoFair$Matching", name := "apply", desc := "(II)I" } : Jvm.MethodName)) ∈ lw_all := lw_g (lw_at lw_m10 5 rfl) rfl
theorem q2328 : (Jvm.Cond.code ({ cls := "EchoFair$Matching", name := "apply", desc := "(II)I" } : Jvm.MethodName) prog_3_method_7_code (6 : Nat) (Option.some Jvm.ClassFile.FieldType.int)) ∈ lw_all := lw_g (lw_at lw_m10 6 rfl) rfl
theorem q2329 : (Jvm.Cond.methodLink "EchoFair$Matching" (89 : Nat) ({ cls := "EchoFair$Valley", name := "freePosts", desc := "()I" } : Jvm.MethodName)) ∈ lw_all := lw_g (lw_at lw_m10 7 rfl) rfl
theorem q2330 : (Jvm.Cond.methodLink "EchoFair$Matching" (92 : Nat) ({ cls := "EchoFair$Matching", name := "worstPlace", desc := "(I)I" } : Jvm.MethodName)) ∈ lw_all := lw_g (lw_at lw_m10 8 rfl) rfl
theorem q2331 : (Jvm.Cond.privateMethod ({ cls := "EchoFair$Matching", name := "worstPlace", desc := "(I)I" } : Jvm.MethodName)) ∈ lw_tbl := lw_at lw_m10 9 rfl
theorem q2332 : (Jvm.Cond.instanceMethod ({ cls := "EchoFair$Matching", name := "worstPlace", desc := "(I)I" } : Jvm.MethodName)) ∈ lw_all := lw_g (lw_at lw_m10 10 rfl) rfl
theorem q2333 : (Jvm.Cond.code ({ cls := "EchoFair$Matching", name := "worstPlace", desc := "(I)I" } : Jvm.MethodName) prog_3_method_6_code (4 : Nat) (Option.some Jvm.ClassFile.FieldType.int)) ∈ lw_all := lw_g (lw_at lw_m10 11 rfl) rfl
theorem q2334 : (Jvm.Cond.methodLink "EchoFair$Matching" (85 : Nat) ({ cls := "EchoFair$Matching", name := "prefers", desc := "(III)Z" } : Jvm.MethodName)) ∈ lw_all := lw_g (lw_at lw_m10 12 rfl) rfl
theorem q2335 : (Jvm.Cond.privateMethod ({ cls := "EchoFair$Matching", name := "prefers", desc := "(III)Z" } : Jvm.MethodName)) ∈ lw_tbl := lw_at lw_m10 13 rfl
theorem q2336 : (Jvm.Cond.instanceMethod ({ cls := "EchoFair$Matching", name := "prefers", desc := "(III)Z" } : Jvm.MethodName)) ∈ lw_all := lw_g (lw_at lw_m10 14 rfl) rfl
theorem q2337 : (Jvm.Cond.code ({ cls := "EchoFair$Matching", name := "prefers", desc := "(III)Z" } : Jvm.MethodName) prog_3_method_5_code (6 : Nat) (Option.some Jvm.ClassFile.FieldType.boolean)) ∈ lw_all := lw_g (lw_at lw_m10 15 rfl) rfl
theorem q3673 : (Jvm.Cond.instanceMethod ({ cls := "EchoFair$Matching", name := "resultWith", desc := "(II)[I" } : Jvm.MethodName)) ∈ lw_all := lw_g (lw_at lw_m15 151 rfl) rfl
theorem q3674 : (Jvm.Cond.selects "EchoFair$Matching" ({ cls := "EchoFair$Matching", name := "resultWith", desc := "(II)[I" } : Jvm.MethodName) ({ cls := "EchoFair$Matching", name := "resultWith", desc := "(II)[I" } : Jvm.MethodName)) ∈ lw_all := lw_g (lw_at lw_m15 152 rfl) rfl
theorem q3675 : (Jvm.Cond.code ({ cls := "EchoFair$Matching", name := "resultWith", desc := "(II)[I" } : Jvm.MethodName) prog_3_method_2_code (3 : Nat) (Option.some (Jvm.ClassFile.FieldType.array Jvm.ClassFile.FieldType.int))) ∈ lw_all := lw_g (lw_at lw_m15 153 rfl) rfl
theorem q3676 : (Jvm.Cond.methodLink "EchoFair$Matching" (72 : Nat) ({ cls := "EchoFair$Matching", name := "result", desc := "()[I" } : Jvm.MethodName)) ∈ lw_all := lw_g (lw_at lw_m15 154 rfl) rfl
theorem q4631 : (Jvm.Cond.castable "EchoFair$Matching" "java/lang/Object") ∈ lw_tbl := lw_at lw_m19 149 rfl
theorem q207 : (Jvm.Cond.initialized "EchoFair$Pair") ∈ lw_all := lw_g (lw_at lw_m1 45 rfl) rfl
theorem q966 : (Jvm.Cond.selects "EchoFair$Pair" ({ cls := "java/lang/Object", name := "toString", desc := "()Ljava/lang/String;" } : Jvm.MethodName) ({ cls := "java/lang/Object", name := "toString", desc := "()Ljava/lang/String;" } : Jvm.MethodName)) ∈ lw_all := lw_g (lw_at lw_m4 84 rfl) rfl
theorem q976 : (Jvm.Cond.selects "EchoFair$Pair" ({ cls := "java/lang/Object", name := "getClass", desc := "()Ljava/lang/Class;" } : Jvm.MethodName) ({ cls := "java/lang/Object", name := "getClass", desc := "()Ljava/lang/Class;" } : Jvm.MethodName)) ∈ lw_all := lw_g (lw_at lw_m4 94 rfl) rfl
theorem q1605 : (Jvm.Cond.instantiable "EchoFair$Pair" (2 : Nat)) ∈ lw_all := lw_g (lw_at lw_m7 3 rfl) rfl
theorem q1607 : (Jvm.Cond.instanceMethod ({ cls := "EchoFair$Pair", name := "<init>", desc := "(II)V" } : Jvm.MethodName)) ∈ lw_all := lw_g (lw_at lw_m7 5 rfl) rfl
theorem q1608 : (Jvm.Cond.code ({ cls := "EchoFair$Pair", name := "<init>", desc := "(II)V" } : Jvm.MethodName) prog_5_method_1_code (3 : Nat) (Option.none : Option Jvm.ClassFile.FieldType)) ∈ lw_all := lw_g (lw_at lw_m7 6 rfl) rfl
theorem q1609 : (Jvm.Cond.methodLink "EchoFair$Pair" (3 : Nat) ({ cls := "java/lang/Object", name := "<init>", desc := "()V" } : Jvm.MethodName)) ∈ lw_all := lw_g (lw_at lw_m7 7 rfl) rfl
theorem q1610 : (Jvm.Cond.fieldLink "EchoFair$Pair" (9 : Nat) "EchoFair$Pair" "valley" "I") ∈ lw_all := lw_g (lw_at lw_m7 8 rfl) rfl
theorem q1611 : (Jvm.Cond.fieldLink "EchoFair$Pair" (15 : Nat) "EchoFair$Pair" "echo" "I") ∈ lw_all := lw_g (lw_at lw_m7 9 rfl) rfl
theorem q1612 : (Jvm.Cond.laysFinal "EchoFair$Pair" "EchoFair$Pair" "valley" "I") ∈ lw_all := lw_g (lw_at lw_m7 10 rfl) rfl
theorem q1613 : (Jvm.Cond.soleField "EchoFair$Pair" "valley") ∈ lw_all := lw_g (lw_at lw_m7 11 rfl) rfl
theorem q1614 : (Jvm.Cond.laysFinal "EchoFair$Pair" "EchoFair$Pair" "echo" "I") ∈ lw_all := lw_g (lw_at lw_m7 12 rfl) rfl
theorem q1615 : (Jvm.Cond.soleField "EchoFair$Pair" "echo") ∈ lw_all := lw_g (lw_at lw_m7 13 rfl) rfl
theorem q1616 : (Jvm.Cond.superclass "EchoFair$Pair" "java/lang/Object") ∈ lw_all := lw_g (lw_at lw_m7 14 rfl) rfl
theorem q1645 : (Jvm.Cond.selects "EchoFair$Pair" ({ cls := "java/lang/Object", name := "hashCode", desc := "()I" } : Jvm.MethodName) ({ cls := "EchoFair$Pair", name := "hashCode", desc := "()I" } : Jvm.MethodName)) ∈ lw_all := lw_g (lw_at lw_m7 43 rfl) rfl
theorem q1646 : (Jvm.Cond.instanceMethod ({ cls := "EchoFair$Pair", name := "hashCode", desc := "()I" } : Jvm.MethodName)) ∈ lw_all := lw_g (lw_at lw_m7 44 rfl) rfl
theorem q1647 : (Jvm.Cond.code ({ cls := "EchoFair$Pair", name := "hashCode", desc := "()I" } : Jvm.MethodName) prog_5_method_3_code (1 : Nat) (Option.some Jvm.ClassFile.FieldType.int)) ∈ lw_all := lw_g (lw_at lw_m7 45 rfl) rfl
theorem q1739 : (Jvm.Cond.selects "EchoFair$Pair" ({ cls := "java/lang/Object", name := "equals", desc := "(Ljava/lang/Object;)Z" } : Jvm.MethodName) ({ cls := "EchoFair$Pair", name := "equals", desc := "(Ljava/lang/Object;)Z" } : Jvm.MethodName)) ∈ lw_all := lw_g (lw_at lw_m7 137 rfl) rfl
theorem q1740 : (Jvm.Cond.instanceMethod ({ cls := "EchoFair$Pair", name := "equals", desc := "(Ljava/lang/Object;)Z" } : Jvm.MethodName)) ∈ lw_all := lw_g (lw_at lw_m7 138 rfl) rfl
theorem q1741 : (Jvm.Cond.code ({ cls := "EchoFair$Pair", name := "equals", desc := "(Ljava/lang/Object;)Z" } : Jvm.MethodName) prog_5_method_2_code (3 : Nat) (Option.some Jvm.ClassFile.FieldType.boolean)) ∈ lw_all := lw_g (lw_at lw_m7 139 rfl) rfl
theorem q1742 : (Jvm.Cond.classLink "EchoFair$Pair" (10 : Nat) "EchoFair$Pair") ∈ lw_all := lw_g (lw_at lw_m7 140 rfl) rfl
theorem q4632 : (Jvm.Cond.castable "EchoFair$Pair" "java/lang/Object") ∈ lw_tbl := lw_at lw_m19 150 rfl
theorem q165 : (Jvm.Cond.initialized "java/util/AbstractCollection") ∈ lw_all := lw_g (lw_at lw_m1 3 rfl) rfl
theorem q257 : (Jvm.Cond.instanceMethod ({ cls := "java/util/AbstractCollection", name := "<init>", desc := "()V" } : Jvm.MethodName)) ∈ lw_all := lw_g (lw_at lw_m1 95 rfl) rfl
theorem q258 : (Jvm.Cond.code ({ cls := "java/util/AbstractCollection", name := "<init>", desc := "()V" } : Jvm.MethodName) prog_48_method_1_code (1 : Nat) (Option.none : Option Jvm.ClassFile.FieldType)) ∈ lw_all := lw_g (lw_at lw_m1 96 rfl) rfl
theorem q259 : (Jvm.Cond.methodLink "java/util/AbstractCollection" (1 : Nat) ({ cls := "java/lang/Object", name := "<init>", desc := "()V" } : Jvm.MethodName)) ∈ lw_all := lw_g (lw_at lw_m1 97 rfl) rfl
theorem q2387 : (Jvm.Cond.declares ({ cls := "java/util/AbstractCollection", name := "addAll", desc := "(Ljava/util/Collection;)Z" } : Jvm.MethodName)) ∈ lw_tbl := lw_at lw_m10 65 rfl
theorem q2389 : (Jvm.Cond.instanceMethod ({ cls := "java/util/AbstractCollection", name := "addAll", desc := "(Ljava/util/Collection;)Z" } : Jvm.MethodName)) ∈ lw_all := lw_g (lw_at lw_m10 67 rfl) rfl
theorem q2390 : (Jvm.Cond.code ({ cls := "java/util/AbstractCollection", name := "addAll", desc := "(Ljava/util/Collection;)Z" } : Jvm.MethodName) prog_48_method_12_code (5 : Nat) (Option.some Jvm.ClassFile.FieldType.boolean)) ∈ lw_all := lw_g (lw_at lw_m10 68 rfl) rfl
theorem q2391 : (Jvm.Cond.interfaceEntry "java/util/AbstractCollection" (76 : Nat)) ∈ lw_tbl := lw_at lw_m10 69 rfl
theorem q2392 : (Jvm.Cond.methodLink "java/util/AbstractCollection" (76 : Nat) ({ cls := "java/util/Collection", name := "iterator", desc := "()Ljava/util/Iterator;" } : Jvm.MethodName)) ∈ lw_all := lw_g (lw_at lw_m10 70 rfl) rfl
theorem q2583 : (Jvm.Cond.interfaceEntry "java/util/AbstractCollection" (17 : Nat)) ∈ lw_tbl := lw_at lw_m11 21 rfl
theorem q2584 : (Jvm.Cond.methodLink "java/util/AbstractCollection" (17 : Nat) ({ cls := "java/util/Iterator", name := "hasNext", desc := "()Z" } : Jvm.MethodName)) ∈ lw_all := lw_g (lw_at lw_m11 22 rfl) rfl
theorem q2585 : (Jvm.Cond.interfaceEntry "java/util/AbstractCollection" (23 : Nat)) ∈ lw_tbl := lw_at lw_m11 23 rfl
theorem q2586 : (Jvm.Cond.methodLink "java/util/AbstractCollection" (23 : Nat) ({ cls := "java/util/Iterator", name := "next", desc := "()Ljava/lang/Object;" } : Jvm.MethodName)) ∈ lw_all := lw_g (lw_at lw_m11 24 rfl) rfl
theorem q2587 : (Jvm.Cond.methodLink "java/util/AbstractCollection" (82 : Nat) ({ cls := "java/util/AbstractCollection", name := "add", desc := "(Ljava/lang/Object;)Z" } : Jvm.MethodName)) ∈ lw_all := lw_g (lw_at lw_m11 25 rfl) rfl
theorem q2588 : (Jvm.Cond.instanceMethod ({ cls := "java/util/AbstractCollection", name := "add", desc := "(Ljava/lang/Object;)Z" } : Jvm.MethodName)) ∈ lw_all := lw_g (lw_at lw_m11 26 rfl) rfl
theorem q2589 : (Jvm.Cond.sameMethod "java/util/AbstractCollection" "java/util/AbstractCollection" "add" "(Ljava/lang/Object;)Z") ∈ lw_all := lw_g (lw_at lw_m11 27 rfl) rfl
theorem q2812 : (Jvm.Cond.code ({ cls := "java/util/AbstractCollection", name := "add", desc := "(Ljava/lang/Object;)Z" } : Jvm.MethodName) prog_48_method_9_code (2 : Nat) (Option.some Jvm.ClassFile.FieldType.boolean)) ∈ lw_all := lw_g (lw_at lw_m12 10 rfl) rfl
theorem q166 : (Jvm.Cond.initialized "java/util/AbstractList") ∈ lw_all := lw_g (lw_at lw_m1 4 rfl) rfl
theorem q254 : (Jvm.Cond.instanceMethod ({ cls := "java/util/AbstractList", name := "<init>", desc := "()V" } : Jvm.MethodName)) ∈ lw_all := lw_g (lw_at lw_m1 92 rfl) rfl
theorem q255 : (Jvm.Cond.code ({ cls := "java/util/AbstractList", name := "<init>", desc := "()V" } : Jvm.MethodName) prog_49_method_1_code (1 : Nat) (Option.none : Option Jvm.ClassFile.FieldType)) ∈ lw_all := lw_g (lw_at lw_m1 93 rfl) rfl
theorem q256 : (Jvm.Cond.methodLink "java/util/AbstractList" (1 : Nat) ({ cls := "java/util/AbstractCollection", name := "<init>", desc := "()V" } : Jvm.MethodName)) ∈ lw_all := lw_g (lw_at lw_m1 94 rfl) rfl
theorem q588 : (Jvm.Cond.fieldLink "java/util/AbstractList" (7 : Nat) "java/util/AbstractList" "modCount" "I") ∈ lw_all := lw_g (lw_at lw_m2 186 rfl) rfl
theorem q597 : (Jvm.Cond.soleField "java/util/AbstractList" "modCount") ∈ lw_all := lw_g (lw_at lw_m2 195 rfl) rfl
theorem q175 : (Jvm.Cond.initialized "java/lang/StringUTF16") ∈ lw_all := lw_g (lw_at lw_m1 13 rfl) rfl
theorem q321 : (Jvm.Cond.static ({ cls := "java/lang/StringUTF16", name := "newBytesFor", desc := "(I)[B" } : Jvm.MethodName)) ∈ lw_all := lw_g (lw_at lw_m1 159 rfl) rfl
theorem q322 : (Jvm.Cond.code ({ cls := "java/lang/StringUTF16", name := "newBytesFor", desc := "(I)[B" } : Jvm.MethodName) prog_42_method_2_code (1 : Nat) (Option.some (Jvm.ClassFile.FieldType.array Jvm.ClassFile.FieldType.byte))) ∈ lw_all := lw_g (lw_at lw_m1 160 rfl) rfl
theorem q323 : (Jvm.Cond.methodLink "java/lang/StringUTF16" (11 : Nat) ({ cls := "java/lang/StringUTF16", name := "newBytesLength", desc := "(I)I" } : Jvm.MethodName)) ∈ lw_all := lw_g (lw_at lw_m1 161 rfl) rfl
theorem q324 : (Jvm.Cond.static ({ cls := "java/lang/StringUTF16", name := "newBytesLength", desc := "(I)I" } : Jvm.MethodName)) ∈ lw_all := lw_g (lw_at lw_m1 162 rfl) rfl
theorem q325 : (Jvm.Cond.code ({ cls := "java/lang/StringUTF16", name := "newBytesLength", desc := "(I)I" } : Jvm.MethodName) prog_42_method_3_code (1 : Nat) (Option.some Jvm.ClassFile.FieldType.int)) ∈ lw_all := lw_g (lw_at lw_m1 163 rfl) rfl
theorem q326 : (Jvm.Cond.constant "java/lang/StringUTF16" (20 : Nat) (1073741823 : Int32)) ∈ lw_all := lw_g (lw_at lw_m1 164 rfl) rfl
theorem q396 : (Jvm.Cond.static ({ cls := "java/lang/StringUTF16", name := "putCharsAt", desc := "([BICCCC)I" } : Jvm.MethodName)) ∈ lw_all := lw_g (lw_at lw_m1 234 rfl) rfl
theorem q397 : (Jvm.Cond.code ({ cls := "java/lang/StringUTF16", name := "putCharsAt", desc := "([BICCCC)I" } : Jvm.MethodName) prog_42_method_81_code (7 : Nat) (Option.some Jvm.ClassFile.FieldType.int)) ∈ lw_all := lw_g (lw_at lw_m1 235 rfl) rfl
theorem q398 : (Jvm.Cond.methodLink "java/lang/StringUTF16" (96 : Nat) ({ cls := "java/lang/StringUTF16", name := "checkBoundsBeginEnd", desc := "(II[B)V" } : Jvm.MethodName)) ∈ lw_all := lw_g (lw_at lw_m1 236 rfl) rfl
theorem q399 : (Jvm.Cond.static ({ cls := "java/lang/StringUTF16", name := "checkBoundsBeginEnd", desc := "(II[B)V" } : Jvm.MethodName)) ∈ lw_all := lw_g (lw_at lw_m1 237 rfl) rfl
theorem q400 : (Jvm.Cond.code ({ cls := "java/lang/StringUTF16", name := "checkBoundsBeginEnd", desc := "(II[B)V" } : Jvm.MethodName) prog_42_method_93_code (3 : Nat) (Option.none : Option Jvm.ClassFile.FieldType)) ∈ lw_all := lw_g (lw_at lw_m1 238 rfl) rfl
theorem q401 : (Jvm.Cond.methodLink "java/lang/StringUTF16" (48 : Nat) ({ cls := "java/lang/StringUTF16", name := "length", desc := "([B)I" } : Jvm.MethodName)) ∈ lw_all := lw_g (lw_at lw_m1 239 rfl) rfl
theorem q402 : (Jvm.Cond.static ({ cls := "java/lang/StringUTF16", name := "length", desc := "([B)I" } : Jvm.MethodName)) ∈ lw_all := lw_g (lw_at lw_m2 0 rfl) rfl
theorem q403 : (Jvm.Cond.code ({ cls := "java/lang/StringUTF16", name := "length", desc := "([B)I" } : Jvm.MethodName) prog_42_method_6_code (1 : Nat) (Option.some Jvm.ClassFile.FieldType.int)) ∈ lw_all := lw_g (lw_at lw_m2 1 rfl) rfl
theorem q404 : (Jvm.Cond.methodLink "java/lang/StringUTF16" (241 : Nat) ({ cls := "java/lang/String", name := "checkBoundsBeginEnd", desc := "(III)V" } : Jvm.MethodName)) ∈ lw_all := lw_g (lw_at lw_m2 2 rfl) rfl
theorem q412 : (Jvm.Cond.methodLink "java/lang/StringUTF16" (111 : Nat) ({ cls := "java/lang/StringUTF16", name := "putChar", desc := "([BII)V" } : Jvm.MethodName)) ∈ lw_all := lw_g (lw_at lw_m2 10 rfl) rfl
theorem q413 : (Jvm.Cond.static ({ cls := "java/lang/StringUTF16", name := "putChar", desc := "([BII)V" } : Jvm.MethodName)) ∈ lw_all := lw_g (lw_at lw_m2 11 rfl) rfl
theorem q414 : (Jvm.Cond.code ({ cls := "java/lang/StringUTF16", name := "putChar", desc := "([BII)V" } : Jvm.MethodName) prog_42_method_4_code (3 : Nat) (Option.none : Option Jvm.ClassFile.FieldType)) ∈ lw_all := lw_g (lw_at lw_m2 12 rfl) rfl
theorem q415 : (Jvm.Cond.fieldLink "java/lang/StringUTF16" (44 : Nat) "java/lang/StringUTF16" "$assertionsDisabled" "Z") ∈ lw_all := lw_g (lw_at lw_m2 13 rfl) rfl
theorem q416 : (Jvm.Cond.laysStatic "java/lang/StringUTF16" "$assertionsDisabled" "Z") ∈ lw_tbl := lw_at lw_m2 14 rfl
theorem q417 : (Jvm.Cond.fieldLink "java/lang/StringUTF16" (59 : Nat) "java/lang/StringUTF16" "HI_BYTE_SHIFT" "I") ∈ lw_all := lw_g (lw_at lw_m2 15 rfl) rfl
theorem q418 : (Jvm.Cond.laysStatic "java/lang/StringUTF16" "HI_BYTE_SHIFT" "I") ∈ lw_tbl := lw_at lw_m2 16 rfl
theorem q419 : (Jvm.Cond.fieldLink "java/lang/StringUTF16" (63 : Nat) "java/lang/StringUTF16" "LO_BYTE_SHIFT" "I") ∈ lw_all := lw_g (lw_at lw_m2 17 rfl) rfl
theorem q420 : (Jvm.Cond.laysStatic "java/lang/StringUTF16" "LO_BYTE_SHIFT" "I") ∈ lw_tbl := lw_at lw_m2 18 rfl
theorem q447 : (Jvm.Cond.static ({ cls := "java/lang/StringUTF16", name := "inflate", desc := "([BI[BII)V" } : Jvm.MethodName)) ∈ lw_all := lw_g (lw_at lw_m2 45 rfl) rfl
theorem q448 : (Jvm.Cond.code ({ cls := "java/lang/StringUTF16", name := "inflate", desc := "([BI[BII)V" } : Jvm.MethodName) prog_42_method_86_code (6 : Nat) (Option.none : Option Jvm.ClassFile.FieldType)) ∈ lw_all := lw_g (lw_at lw_m2 46 rfl) rfl
theorem q449 : (Jvm.Cond.methodLink "java/lang/StringUTF16" (173 : Nat) ({ cls := "java/lang/StringUTF16", name := "checkBoundsOffCount", desc := "(II[B)V" } : Jvm.MethodName)) ∈ lw_all := lw_g (lw_at lw_m2 47 rfl) rfl
theorem q450 : (Jvm.Cond.static ({ cls := "java/lang/StringUTF16", name := "checkBoundsOffCount", desc := "(II[B)V" } : Jvm.MethodName)) ∈ lw_all := lw_g (lw_at lw_m2 48 rfl) rfl
theorem q451 : (Jvm.Cond.code ({ cls := "java/lang/StringUTF16", name := "checkBoundsOffCount", desc := "(II[B)V" } : Jvm.MethodName) prog_42_method_94_code (3 : Nat) (Option.none : Option Jvm.ClassFile.FieldType)) ∈ lw_all := lw_g (lw_at lw_m2 49 rfl) rfl
theorem q452 : (Jvm.Cond.methodLink "java/lang/StringUTF16" (419 : Nat) ({ cls := "java/lang/String", name := "checkBoundsOffCount", desc := "(III)I" } : Jvm.MethodName)) ∈ lw_all := lw_g (lw_at lw_m2 50 rfl) rfl
theorem q482 : (Jvm.Cond.static ({ cls := "java/lang/StringUTF16", name := "getChars", desc := "(III[B)I" } : Jvm.MethodName)) ∈ lw_all := lw_g (lw_at lw_m2 80 rfl) rfl
theorem q483 : (Jvm.Cond.code ({ cls := "java/lang/StringUTF16", name := "getChars", desc := "(III[B)I" } : Jvm.MethodName) prog_42_method_77_code (5 : Nat) (Option.some Jvm.ClassFile.FieldType.int)) ∈ lw_all := lw_g (lw_at lw_m2 81 rfl) rfl
theorem q484 : (Jvm.Cond.methodLink "java/lang/StringUTF16" (393 : Nat) ({ cls := "java/lang/StringUTF16", name := "getChars", desc := "(II[B)I" } : Jvm.MethodName)) ∈ lw_all := lw_g (lw_at lw_m2 82 rfl) rfl
theorem q485 : (Jvm.Cond.static ({ cls := "java/lang/StringUTF16", name := "getChars", desc := "(II[B)I" } : Jvm.MethodName)) ∈ lw_all := lw_g (lw_at lw_m2 83 rfl) rfl
theorem q486 : (Jvm.Cond.code ({ cls := "java/lang/StringUTF16", name := "getChars", desc := "(II[B)I" } : Jvm.MethodName) prog_42_method_89_code (7 : Nat) (Option.some Jvm.ClassFile.FieldType.int)) ∈ lw_all := lw_g (lw_at lw_m2 84 rfl) rfl
theorem q487 : (Jvm.Cond.fieldLink "java/lang/StringUTF16" (403 : Nat) "java/lang/Integer" "DigitOnes" "[B") ∈ lw_all := lw_g (lw_at lw_m2 85 rfl) rfl
theorem q488 : (Jvm.Cond.fieldLink "java/lang/StringUTF16" (407 : Nat) "java/lang/Integer" "DigitTens" "[B") ∈ lw_all := lw_g (lw_at lw_m2 86 rfl) rfl
theorem q558 : (Jvm.Cond.static ({ cls := "java/lang/StringUTF16", name := "compress", desc := "([BII)[B" } : Jvm.MethodName)) ∈ lw_all := lw_g (lw_at lw_m2 156 rfl) rfl
theorem q559 : (Jvm.Cond.code ({ cls := "java/lang/StringUTF16", name := "compress", desc := "([BII)[B" } : Jvm.MethodName) prog_42_method_17_code (6 : Nat) (Option.some (Jvm.ClassFile.FieldType.array Jvm.ClassFile.FieldType.byte))) ∈ lw_all := lw_g (lw_at lw_m2 157 rfl) rfl
theorem q560 : (Jvm.Cond.methodLink "java/lang/StringUTF16" (123 : Nat) ({ cls := "java/lang/StringUTF16", name := "compress", desc := "([BI[BII)I" } : Jvm.MethodName)) ∈ lw_all := lw_g (lw_at lw_m2 158 rfl) rfl
theorem q561 : (Jvm.Cond.static ({ cls := "java/lang/StringUTF16", name := "compress", desc := "([BI[BII)I" } : Jvm.MethodName)) ∈ lw_all := lw_g (lw_at lw_m2 159 rfl) rfl
theorem q562 : (Jvm.Cond.code ({ cls := "java/lang/StringUTF16", name := "compress", desc := "([BI[BII)I" } : Jvm.MethodName) prog_42_method_22_code (7 : Nat) (Option.some Jvm.ClassFile.FieldType.int)) ∈ lw_all := lw_g (lw_at lw_m2 160 rfl) rfl
theorem q563 : (Jvm.Cond.methodLink "java/lang/StringUTF16" (71 : Nat) ({ cls := "java/lang/StringUTF16", name := "getChar", desc := "([BI)C" } : Jvm.MethodName)) ∈ lw_all := lw_g (lw_at lw_m2 161 rfl) rfl
theorem q564 : (Jvm.Cond.static ({ cls := "java/lang/StringUTF16", name := "getChar", desc := "([BI)C" } : Jvm.MethodName)) ∈ lw_all := lw_g (lw_at lw_m2 162 rfl) rfl
theorem q565 : (Jvm.Cond.code ({ cls := "java/lang/StringUTF16", name := "getChar", desc := "([BI)C" } : Jvm.MethodName) prog_42_method_5_code (2 : Nat) (Option.some Jvm.ClassFile.FieldType.char)) ∈ lw_all := lw_g (lw_at lw_m2 163 rfl) rfl
theorem q566 : (Jvm.Cond.methodLink "java/lang/StringUTF16" (126 : Nat) ({ cls := "java/util/Arrays", name := "copyOfRange", desc := "([BII)[B" } : Jvm.MethodName)) ∈ lw_all := lw_g (lw_at lw_m2 164 rfl) rfl
theorem q568 : (Jvm.Cond.static ({ cls := "java/lang/StringUTF16", name := "coderFromArrayLen", desc := "([BI)B" } : Jvm.MethodName)) ∈ lw_all := lw_g (lw_at lw_m2 166 rfl) rfl
theorem q569 : (Jvm.Cond.code ({ cls := "java/lang/StringUTF16", name := "coderFromArrayLen", desc := "([BI)B" } : Jvm.MethodName) prog_42_method_15_code (2 : Nat) (Option.some Jvm.ClassFile.FieldType.byte)) ∈ lw_all := lw_g (lw_at lw_m2 167 rfl) rfl
theorem q773 : (Jvm.Cond.static ({ cls := "java/lang/StringUTF16", name := "putCharsSB", desc := "([BI[CII)V" } : Jvm.MethodName)) ∈ lw_all := lw_g (lw_at lw_m3 131 rfl) rfl
theorem q774 : (Jvm.Cond.code ({ cls := "java/lang/StringUTF16", name := "putCharsSB", desc := "([BI[CII)V" } : Jvm.MethodName) prog_42_method_72_code (5 : Nat) (Option.none : Option Jvm.ClassFile.FieldType)) ∈ lw_all := lw_g (lw_at lw_m3 132 rfl) rfl
theorem q775 : (Jvm.Cond.methodLink "java/lang/StringUTF16" (384 : Nat) ({ cls := "java/lang/StringUTF16", name := "putChars", desc := "([BI[CII)V" } : Jvm.MethodName)) ∈ lw_all := lw_g (lw_at lw_m3 133 rfl) rfl
theorem q776 : (Jvm.Cond.static ({ cls := "java/lang/StringUTF16", name := "putChars", desc := "([BI[CII)V" } : Jvm.MethodName)) ∈ lw_all := lw_g (lw_at lw_m3 134 rfl) rfl
theorem q777 : (Jvm.Cond.code ({ cls := "java/lang/StringUTF16", name := "putChars", desc := "([BI[CII)V" } : Jvm.MethodName) prog_42_method_68_code (5 : Nat) (Option.none : Option Jvm.ClassFile.FieldType)) ∈ lw_all := lw_g (lw_at lw_m3 135 rfl) rfl
theorem q803 : (Jvm.Cond.static ({ cls := "java/lang/StringUTF16", name := "putCharSB", desc := "([BII)V" } : Jvm.MethodName)) ∈ lw_all := lw_g (lw_at lw_m3 161 rfl) rfl
theorem q804 : (Jvm.Cond.code ({ cls := "java/lang/StringUTF16", name := "putCharSB", desc := "([BII)V" } : Jvm.MethodName) prog_42_method_71_code (3 : Nat) (Option.none : Option Jvm.ClassFile.FieldType)) ∈ lw_all := lw_g (lw_at lw_m3 162 rfl) rfl
theorem q805 : (Jvm.Cond.methodLink "java/lang/StringUTF16" (67 : Nat) ({ cls := "java/lang/StringUTF16", name := "checkIndex", desc := "(I[B)V" } : Jvm.MethodName)) ∈ lw_all := lw_g (lw_at lw_m3 163 rfl) rfl
theorem q806 : (Jvm.Cond.static ({ cls := "java/lang/StringUTF16", name := "checkIndex", desc := "(I[B)V" } : Jvm.MethodName)) ∈ lw_all := lw_g (lw_at lw_m3 164 rfl) rfl
theorem q807 : (Jvm.Cond.code ({ cls := "java/lang/StringUTF16", name := "checkIndex", desc := "(I[B)V" } : Jvm.MethodName) prog_42_method_91_code (2 : Nat) (Option.none : Option Jvm.ClassFile.FieldType)) ∈ lw_all := lw_g (lw_at lw_m3 165 rfl) rfl
theorem q808 : (Jvm.Cond.methodLink "java/lang/StringUTF16" (414 : Nat) ({ cls := "java/lang/String", name := "checkIndex", desc := "(II)V" } : Jvm.MethodName)) ∈ lw_all := lw_g (lw_at lw_m3 166 rfl) rfl
theorem q908 : (Jvm.Cond.static ({ cls := "java/lang/StringUTF16", name := "charAt", desc := "([BI)C" } : Jvm.MethodName)) ∈ lw_all := lw_g (lw_at lw_m4 26 rfl) rfl
theorem q909 : (Jvm.Cond.code ({ cls := "java/lang/StringUTF16", name := "charAt", desc := "([BI)C" } : Jvm.MethodName) prog_42_method_83_code (2 : Nat) (Option.some Jvm.ClassFile.FieldType.char)) ∈ lw_all := lw_g (lw_at lw_m4 27 rfl) rfl
theorem q911 : (Jvm.Cond.static ({ cls := "java/lang/StringUTF16", name := "putCharsSB", desc := "([BILjava/lang/CharSequence;II)V" } : Jvm.MethodName)) ∈ lw_all := lw_g (lw_at lw_m4 29 rfl) rfl
theorem q912 : (Jvm.Cond.code ({ cls := "java/lang/StringUTF16", name := "putCharsSB", desc := "([BILjava/lang/CharSequence;II)V" } : Jvm.MethodName) prog_42_method_73_code (6 : Nat) (Option.none : Option Jvm.ClassFile.FieldType)) ∈ lw_all := lw_g (lw_at lw_m4 30 rfl) rfl
theorem q913 : (Jvm.Cond.interfaceEntry "java/lang/StringUTF16" (388 : Nat)) ∈ lw_tbl := lw_at lw_m4 31 rfl
theorem q914 : (Jvm.Cond.methodLink "java/lang/StringUTF16" (388 : Nat) ({ cls := "java/lang/CharSequence", name := "charAt", desc := "(I)C" } : Jvm.MethodName)) ∈ lw_all := lw_g (lw_at lw_m4 32 rfl) rfl
theorem q1723 : (Jvm.Cond.static ({ cls := "java/lang/StringUTF16", name := "hashCode", desc := "([B)I" } : Jvm.MethodName)) ∈ lw_all := lw_g (lw_at lw_m7 121 rfl) rfl
theorem q1724 : (Jvm.Cond.code ({ cls := "java/lang/StringUTF16", name := "hashCode", desc := "([B)I" } : Jvm.MethodName) prog_42_method_39_code (1 : Nat) (Option.some Jvm.ClassFile.FieldType.int)) ∈ lw_all := lw_g (lw_at lw_m7 122 rfl) rfl
theorem q1725 : (Jvm.Cond.methodLink "java/lang/StringUTF16" (220 : Nat) ({ cls := "jdk/internal/util/ArraysSupport", name := "vectorizedHashCode", desc := "(Ljava/lang/Object;IIII)I" } : Jvm.MethodName)) ∈ lw_all := lw_g (lw_at lw_m7 123 rfl) rfl
theorem q1951 : (Jvm.Cond.static ({ cls := "java/lang/StringUTF16", name := "compareTo", desc := "([B[B)I" } : Jvm.MethodName)) ∈ lw_all := lw_g (lw_at lw_m8 109 rfl) rfl
theorem q1952 : (Jvm.Cond.code ({ cls := "java/lang/StringUTF16", name := "compareTo", desc := "([B[B)I" } : Jvm.MethodName) prog_42_method_29_code (4 : Nat) (Option.some Jvm.ClassFile.FieldType.int)) ∈ lw_all := lw_g (lw_at lw_m8 110 rfl) rfl
theorem q1953 : (Jvm.Cond.methodLink "java/lang/StringUTF16" (176 : Nat) ({ cls := "java/lang/StringUTF16", name := "compareValues", desc := "([B[BII)I" } : Jvm.MethodName)) ∈ lw_all := lw_g (lw_at lw_m8 111 rfl) rfl
theorem q1954 : (Jvm.Cond.static ({ cls := "java/lang/StringUTF16", name := "compareValues", desc := "([B[BII)I" } : Jvm.MethodName)) ∈ lw_all := lw_g (lw_at lw_m8 112 rfl) rfl
theorem q1955 : (Jvm.Cond.code ({ cls := "java/lang/StringUTF16", name := "compareValues", desc := "([B[BII)I" } : Jvm.MethodName) prog_42_method_31_code (8 : Nat) (Option.some Jvm.ClassFile.FieldType.int)) ∈ lw_all := lw_g (lw_at lw_m8 113 rfl) rfl
theorem q1956 : (Jvm.Cond.methodLink "java/lang/StringUTF16" (183 : Nat) ({ cls := "java/lang/Math", name := "min", desc := "(II)I" } : Jvm.MethodName)) ∈ lw_all := lw_g (lw_at lw_m8 114 rfl) rfl
theorem q1969 : (Jvm.Cond.static ({ cls := "java/lang/StringUTF16", name := "compareToLatin1", desc := "([B[B)I" } : Jvm.MethodName)) ∈ lw_all := lw_g (lw_at lw_m8 127 rfl) rfl
theorem q1970 : (Jvm.Cond.code ({ cls := "java/lang/StringUTF16", name := "compareToLatin1", desc := "([B[B)I" } : Jvm.MethodName) prog_42_method_32_code (2 : Nat) (Option.some Jvm.ClassFile.FieldType.int)) ∈ lw_all := lw_g (lw_at lw_m8 128 rfl) rfl
theorem q1971 : (Jvm.Cond.methodLink "java/lang/StringUTF16" (189 : Nat) ({ cls := "java/lang/StringLatin1", name := "compareToUTF16", desc := "([B[B)I" } : Jvm.MethodName)) ∈ lw_all := lw_g (lw_at lw_m8 129 rfl) rfl
theorem q1988 : (Jvm.Cond.static ({ cls := "java/lang/StringUTF16", name := "compareTo", desc := "([B[BII)I" } : Jvm.MethodName)) ∈ lw_all := lw_g (lw_at lw_m8 146 rfl) rfl
theorem q1989 : (Jvm.Cond.code ({ cls := "java/lang/StringUTF16", name := "compareTo", desc := "([B[BII)I" } : Jvm.MethodName) prog_42_method_30_code (4 : Nat) (Option.some Jvm.ClassFile.FieldType.int)) ∈ lw_all := lw_g (lw_at lw_m8 147 rfl) rfl
theorem q1990 : (Jvm.Cond.methodLink "java/lang/StringUTF16" (180 : Nat) ({ cls := "java/lang/StringUTF16", name := "checkOffset", desc := "(I[B)V" } : Jvm.MethodName)) ∈ lw_all := lw_g (lw_at lw_m8 148 rfl) rfl
theorem q1991 : (Jvm.Cond.static ({ cls := "java/lang/StringUTF16", name := "checkOffset", desc := "(I[B)V" } : Jvm.MethodName)) ∈ lw_all := lw_g (lw_at lw_m8 149 rfl) rfl
theorem q1992 : (Jvm.Cond.code ({ cls := "java/lang/StringUTF16", name := "checkOffset", desc := "(I[B)V" } : Jvm.MethodName) prog_42_method_92_code (2 : Nat) (Option.none : Option Jvm.ClassFile.FieldType)) ∈ lw_all := lw_g (lw_at lw_m8 150 rfl) rfl
theorem q1993 : (Jvm.Cond.methodLink "java/lang/StringUTF16" (417 : Nat) ({ cls := "java/lang/String", name := "checkOffset", desc := "(II)V" } : Jvm.MethodName)) ∈ lw_all := lw_g (lw_at lw_m8 151 rfl) rfl
theorem q2001 : (Jvm.Cond.static ({ cls := "java/lang/StringUTF16", name := "compareToLatin1", desc := "([B[BII)I" } : Jvm.MethodName)) ∈ lw_all := lw_g (lw_at lw_m8 159 rfl) rfl
theorem q2002 : (Jvm.Cond.code ({ cls := "java/lang/StringUTF16", name := "compareToLatin1", desc := "([B[BII)I" } : Jvm.MethodName) prog_42_method_33_code (4 : Nat) (Option.some Jvm.ClassFile.FieldType.int)) ∈ lw_all := lw_g (lw_at lw_m8 160 rfl) rfl
theorem q2003 : (Jvm.Cond.methodLink "java/lang/StringUTF16" (193 : Nat) ({ cls := "java/lang/StringLatin1", name := "compareToUTF16", desc := "([B[BII)I" } : Jvm.MethodName)) ∈ lw_all := lw_g (lw_at lw_m8 161 rfl) rfl
theorem q3024 : (Jvm.Cond.static ({ cls := "java/lang/StringUTF16", name := "fillNull", desc := "([BII)V" } : Jvm.MethodName)) ∈ lw_all := lw_g (lw_at lw_m12 222 rfl) rfl
theorem q3025 : (Jvm.Cond.code ({ cls := "java/lang/StringUTF16", name := "fillNull", desc := "([BII)V" } : Jvm.MethodName) prog_42_method_70_code (3 : Nat) (Option.none : Option Jvm.ClassFile.FieldType)) ∈ lw_all := lw_g (lw_at lw_m12 223 rfl) rfl
theorem q3026 : (Jvm.Cond.methodLink "java/lang/StringUTF16" (380 : Nat) ({ cls := "java/util/Arrays", name := "fill", desc := "([BIIB)V" } : Jvm.MethodName)) ∈ lw_all := lw_g (lw_at lw_m12 224 rfl) rfl
theorem q176 : (Jvm.Cond.initialized "jdk/internal/util/ArraysSupport") ∈ lw_all := lw_g (lw_at lw_m1 14 rfl) rfl
theorem q364 : (Jvm.Cond.static ({ cls := "jdk/internal/util/ArraysSupport", name := "newLength", desc := "(III)I" } : Jvm.MethodName)) ∈ lw_all := lw_g (lw_at lw_m1 202 rfl) rfl
theorem q365 : (Jvm.Cond.code ({ cls := "jdk/internal/util/ArraysSupport", name := "newLength", desc := "(III)I" } : Jvm.MethodName) prog_92_method_27_code (4 : Nat) (Option.some Jvm.ClassFile.FieldType.int)) ∈ lw_all := lw_g (lw_at lw_m1 203 rfl) rfl
theorem q366 : (Jvm.Cond.methodLink "jdk/internal/util/ArraysSupport" (194 : Nat) ({ cls := "java/lang/Math", name := "max", desc := "(II)I" } : Jvm.MethodName)) ∈ lw_all := lw_g (lw_at lw_m1 204 rfl) rfl
theorem q369 : (Jvm.Cond.constant "jdk/internal/util/ArraysSupport" (200 : Nat) (2147483639 : Int32)) ∈ lw_all := lw_g (lw_at lw_m1 207 rfl) rfl
theorem q370 : (Jvm.Cond.methodLink "jdk/internal/util/ArraysSupport" (201 : Nat) ({ cls := "jdk/internal/util/ArraysSupport", name := "hugeLength", desc := "(II)I" } : Jvm.MethodName)) ∈ lw_all := lw_g (lw_at lw_m1 208 rfl) rfl
theorem q371 : (Jvm.Cond.static ({ cls := "jdk/internal/util/ArraysSupport", name := "hugeLength", desc := "(II)I" } : Jvm.MethodName)) ∈ lw_all := lw_g (lw_at lw_m1 209 rfl) rfl
theorem q372 : (Jvm.Cond.code ({ cls := "jdk/internal/util/ArraysSupport", name := "hugeLength", desc := "(II)I" } : Jvm.MethodName) prog_92_method_28_code (3 : Nat) (Option.some Jvm.ClassFile.FieldType.int)) ∈ lw_all := lw_g (lw_at lw_m1 210 rfl) rfl
theorem q1677 : (Jvm.Cond.static ({ cls := "jdk/internal/util/ArraysSupport", name := "vectorizedHashCode", desc := "(Ljava/lang/Object;IIII)I" } : Jvm.MethodName)) ∈ lw_all := lw_g (lw_at lw_m7 75 rfl) rfl
theorem q1678 : (Jvm.Cond.code ({ cls := "jdk/internal/util/ArraysSupport", name := "vectorizedHashCode", desc := "(Ljava/lang/Object;IIII)I" } : Jvm.MethodName) prog_92_method_4_code (5 : Nat) (Option.some Jvm.ClassFile.FieldType.int)) ∈ lw_all := lw_g (lw_at lw_m7 76 rfl) rfl
theorem q1679 : (Jvm.Cond.classLink "jdk/internal/util/ArraysSupport" (60 : Nat) "[B") ∈ lw_all := lw_g (lw_at lw_m7 77 rfl) rfl
theorem q1680 : (Jvm.Cond.methodLink "jdk/internal/util/ArraysSupport" (62 : Nat) ({ cls := "jdk/internal/util/ArraysSupport", name := "signedHashCode", desc := "(I[BII)I" } : Jvm.MethodName)) ∈ lw_all := lw_g (lw_at lw_m7 78 rfl) rfl
theorem q1681 : (Jvm.Cond.static ({ cls := "jdk/internal/util/ArraysSupport", name := "signedHashCode", desc := "(I[BII)I" } : Jvm.MethodName)) ∈ lw_all := lw_g (lw_at lw_m7 79 rfl) rfl
theorem q1682 : (Jvm.Cond.code ({ cls := "jdk/internal/util/ArraysSupport", name := "signedHashCode", desc := "(I[BII)I" } : Jvm.MethodName) prog_92_method_5_code (6 : Nat) (Option.some Jvm.ClassFile.FieldType.int)) ∈ lw_all := lw_g (lw_at lw_m7 80 rfl) rfl
theorem q1683 : (Jvm.Cond.methodLink "jdk/internal/util/ArraysSupport" (66 : Nat) ({ cls := "jdk/internal/util/ArraysSupport", name := "utf16hashCode", desc := "(I[BII)I" } : Jvm.MethodName)) ∈ lw_all := lw_g (lw_at lw_m7 81 rfl) rfl
theorem q1684 : (Jvm.Cond.static ({ cls := "jdk/internal/util/ArraysSupport", name := "utf16hashCode", desc := "(I[BII)I" } : Jvm.MethodName)) ∈ lw_all := lw_g (lw_at lw_m7 82 rfl) rfl
theorem q1685 : (Jvm.Cond.code ({ cls := "jdk/internal/util/ArraysSupport", name := "utf16hashCode", desc := "(I[BII)I" } : Jvm.MethodName) prog_92_method_10_code (6 : Nat) (Option.some Jvm.ClassFile.FieldType.int)) ∈ lw_all := lw_g (lw_at lw_m7 83 rfl) rfl
theorem q1686 : (Jvm.Cond.fieldLink "jdk/internal/util/ArraysSupport" (106 : Nat) "jdk/internal/util/ArraysSupport" "JLA" "Ljdk/internal/access/JavaLangAccess;") ∈ lw_all := lw_g (lw_at lw_m7 84 rfl) rfl
theorem q1687 : (Jvm.Cond.laysStatic "jdk/internal/util/ArraysSupport" "JLA" "Ljdk/internal/access/JavaLangAccess;") ∈ lw_tbl := lw_at lw_m7 85 rfl
theorem q1688 : (Jvm.Cond.interfaceEntry "jdk/internal/util/ArraysSupport" (110 : Nat)) ∈ lw_tbl := lw_at lw_m7 86 rfl
theorem q1689 : (Jvm.Cond.methodLink "jdk/internal/util/ArraysSupport" (110 : Nat) ({ cls := "jdk/internal/access/JavaLangAccess", name := "getUTF16Char", desc := "([BI)C" } : Jvm.MethodName)) ∈ lw_all := lw_g (lw_at lw_m7 87 rfl) rfl
theorem q1699 : (Jvm.Cond.classLink "jdk/internal/util/ArraysSupport" (69 : Nat) "[C") ∈ lw_all := lw_g (lw_at lw_m7 97 rfl) rfl
theorem q1700 : (Jvm.Cond.methodLink "jdk/internal/util/ArraysSupport" (71 : Nat) ({ cls := "jdk/internal/util/ArraysSupport", name := "hashCode", desc := "(I[CII)I" } : Jvm.MethodName)) ∈ lw_all := lw_g (lw_at lw_m7 98 rfl) rfl
theorem q1701 : (Jvm.Cond.static ({ cls := "jdk/internal/util/ArraysSupport", name := "hashCode", desc := "(I[CII)I" } : Jvm.MethodName)) ∈ lw_all := lw_g (lw_at lw_m7 99 rfl) rfl
theorem q1702 : (Jvm.Cond.code ({ cls := "jdk/internal/util/ArraysSupport", name := "hashCode", desc := "(I[CII)I" } : Jvm.MethodName) prog_92_method_7_code (6 : Nat) (Option.some Jvm.ClassFile.FieldType.int)) ∈ lw_all := lw_g (lw_at lw_m7 100 rfl) rfl
theorem q1703 : (Jvm.Cond.methodLink "jdk/internal/util/ArraysSupport" (75 : Nat) ({ cls := "jdk/internal/util/ArraysSupport", name := "hashCode", desc := "(I[BII)I" } : Jvm.MethodName)) ∈ lw_all := lw_g (lw_at lw_m7 101 rfl) rfl
theorem q1704 : (Jvm.Cond.static ({ cls := "jdk/internal/util/ArraysSupport", name := "hashCode", desc := "(I[BII)I" } : Jvm.MethodName)) ∈ lw_all := lw_g (lw_at lw_m7 102 rfl) rfl
theorem q1705 : (Jvm.Cond.code ({ cls := "jdk/internal/util/ArraysSupport", name := "hashCode", desc := "(I[BII)I" } : Jvm.MethodName) prog_92_method_6_code (6 : Nat) (Option.some Jvm.ClassFile.FieldType.int)) ∈ lw_all := lw_g (lw_at lw_m7 103 rfl) rfl
theorem q1706 : (Jvm.Cond.classLink "jdk/internal/util/ArraysSupport" (77 : Nat) "[S") ∈ lw_all := lw_g (lw_at lw_m7 104 rfl) rfl
theorem q1707 : (Jvm.Cond.methodLink "jdk/internal/util/ArraysSupport" (79 : Nat) ({ cls := "jdk/internal/util/ArraysSupport", name := "hashCode", desc := "(I[SII)I" } : Jvm.MethodName)) ∈ lw_all := lw_g (lw_at lw_m7 105 rfl) rfl
theorem q1708 : (Jvm.Cond.static ({ cls := "jdk/internal/util/ArraysSupport", name := "hashCode", desc := "(I[SII)I" } : Jvm.MethodName)) ∈ lw_all := lw_g (lw_at lw_m7 106 rfl) rfl
theorem q1709 : (Jvm.Cond.code ({ cls := "jdk/internal/util/ArraysSupport", name := "hashCode", desc := "(I[SII)I" } : Jvm.MethodName) prog_92_method_8_code (6 : Nat) (Option.some Jvm.ClassFile.FieldType.int)) ∈ lw_all := lw_g (lw_at lw_m7 107 rfl) rfl
theorem q1710 : (Jvm.Cond.classLink "jdk/internal/util/ArraysSupport" (82 : Nat) "[I") ∈ lw_all := lw_g (lw_at lw_m7 108 rfl) rfl
theorem q1711 : (Jvm.Cond.methodLink "jdk/internal/util/ArraysSupport" (84 : Nat) ({ cls := "jdk/internal/util/ArraysSupport", name := "hashCode", desc := "(I[III)I" } : Jvm.MethodName)) ∈ lw_all := lw_g (lw_at lw_m7 109 rfl) rfl
theorem q1712 : (Jvm.Cond.static ({ cls := "jdk/internal/util/ArraysSupport", name := "hashCode", desc := "(I[III)I" } : Jvm.MethodName)) ∈ lw_all := lw_g (lw_at lw_m7 110 rfl) rfl
theorem q1713 : (Jvm.Cond.code ({ cls := "jdk/internal/util/ArraysSupport", name := "hashCode", desc := "(I[III)I" } : Jvm.MethodName) prog_92_method_9_code (6 : Nat) (Option.some Jvm.ClassFile.FieldType.int)) ∈ lw_all := lw_g (lw_at lw_m7 111 rfl) rfl
theorem q1714 : (Jvm.Cond.classLink "jdk/internal/util/ArraysSupport" (87 : Nat) "java/lang/IllegalArgumentException") ∈ lw_all := lw_g (lw_at lw_m7 112 rfl) rfl
theorem q1715 : (Jvm.Cond.classLink "jdk/internal/util/ArraysSupport" (89 : Nat) "java/lang/StringBuilder") ∈ lw_all := lw_g (lw_at lw_m7 113 rfl) rfl
theorem q1716 : (Jvm.Cond.methodLink "jdk/internal/util/ArraysSupport" (91 : Nat) ({ cls := "java/lang/StringBuilder", name := "<init>", desc := "()V" } : Jvm.MethodName)) ∈ lw_all := lw_g (lw_at lw_m7 114 rfl) rfl
theorem q1717 : (Jvm.Cond.stringRef "jdk/internal/util/ArraysSupport" (92 : Nat) "unrecognized basic type: ") ∈ lw_tbl := lw_at lw_m7 115 rfl
theorem q1718 : (Jvm.Cond.methodLink "jdk/internal/util/ArraysSupport" (94 : Nat) ({ cls := "java/lang/StringBuilder", name := "append", desc := "(Ljava/lang/String;)Ljava/lang/StringBuilder;" } : Jvm.MethodName)) ∈ lw_all := lw_g (lw_at lw_m7 116 rfl) rfl
theorem q1719 : (Jvm.Cond.methodLink "jdk/internal/util/ArraysSupport" (98 : Nat) ({ cls := "java/lang/StringBuilder", name := "append", desc := "(I)Ljava/lang/StringBuilder;" } : Jvm.MethodName)) ∈ lw_all := lw_g (lw_at lw_m7 117 rfl) rfl
theorem q1720 : (Jvm.Cond.methodLink "jdk/internal/util/ArraysSupport" (101 : Nat) ({ cls := "java/lang/StringBuilder", name := "toString", desc := "()Ljava/lang/String;" } : Jvm.MethodName)) ∈ lw_all := lw_g (lw_at lw_m7 118 rfl) rfl
theorem q1721 : (Jvm.Cond.methodLink "jdk/internal/util/ArraysSupport" (105 : Nat) ({ cls := "java/lang/IllegalArgumentException", name := "<init>", desc := "(Ljava/lang/String;)V" } : Jvm.MethodName)) ∈ lw_all := lw_g (lw_at lw_m7 119 rfl) rfl
theorem q1847 : (Jvm.Cond.static ({ cls := "jdk/internal/util/ArraysSupport", name := "mismatch", desc := "([B[BI)I" } : Jvm.MethodName)) ∈ lw_all := lw_g (lw_at lw_m8 5 rfl) rfl
theorem q1848 : (Jvm.Cond.code ({ cls := "jdk/internal/util/ArraysSupport", name := "mismatch", desc := "([B[BI)I" } : Jvm.MethodName) prog_92_method_13_code (4 : Nat) (Option.some Jvm.ClassFile.FieldType.int)) ∈ lw_all := lw_g (lw_at lw_m8 6 rfl) rfl
theorem q1849 : (Jvm.Cond.fieldLink "jdk/internal/util/ArraysSupport" (126 : Nat) "jdk/internal/misc/Unsafe" "ARRAY_BYTE_BASE_OFFSET" "I") ∈ lw_all := lw_g (lw_at lw_m8 7 rfl) rfl
theorem q1851 : (Jvm.Cond.fieldLink "jdk/internal/util/ArraysSupport" (129 : Nat) "jdk/internal/util/ArraysSupport" "LOG2_ARRAY_BYTE_INDEX_SCALE" "I") ∈ lw_all := lw_g (lw_at lw_m8 9 rfl) rfl
theorem q1852 : (Jvm.Cond.laysStatic "jdk/internal/util/ArraysSupport" "LOG2_ARRAY_BYTE_INDEX_SCALE" "I") ∈ lw_tbl := lw_at lw_m8 10 rfl
theorem q1853 : (Jvm.Cond.methodLink "jdk/internal/util/ArraysSupport" (122 : Nat) ({ cls := "jdk/internal/util/ArraysSupport", name := "vectorizedMismatch", desc := "(Ljava/lang/Object;JLjava/lang/Object;JII)I" } : Jvm.MethodName)) ∈ lw_all := lw_g (lw_at lw_m8 11 rfl) rfl
theorem q1854 : (Jvm.Cond.static ({ cls := "jdk/internal/util/ArraysSupport", name := "vectorizedMismatch", desc := "(Ljava/lang/Object;JLjava/lang/Object;JII)I" } : Jvm.MethodName)) ∈ lw_all := lw_g (lw_at lw_m8 12 rfl) rfl
theorem q1855 : (Jvm.Cond.code ({ cls := "jdk/internal/util/ArraysSupport", name := "vectorizedMismatch", desc := "(Ljava/lang/Object;JLjava/lang/Object;JII)I" } : Jvm.MethodName) prog_92_method_3_code (19 : Nat) (Option.some Jvm.ClassFile.FieldType.int)) ∈ lw_all := lw_g (lw_at lw_m8 13 rfl) rfl
theorem q1856 : (Jvm.Cond.fieldLink "jdk/internal/util/ArraysSupport" (20 : Nat) "jdk/internal/util/ArraysSupport" "LOG2_ARRAY_LONG_INDEX_SCALE" "I") ∈ lw_all := lw_g (lw_at lw_m8 14 rfl) rfl
theorem q1857 : (Jvm.Cond.laysStatic "jdk/internal/util/ArraysSupport" "LOG2_ARRAY_LONG_INDEX_SCALE" "I") ∈ lw_tbl := lw_at lw_m8 15 rfl
theorem q1858 : (Jvm.Cond.fieldLink "jdk/internal/util/ArraysSupport" (26 : Nat) "jdk/internal/util/ArraysSupport" "U" "Ljdk/internal/misc/Unsafe;") ∈ lw_all := lw_g (lw_at lw_m8 16 rfl) rfl
theorem q1859 : (Jvm.Cond.laysStatic "jdk/internal/util/ArraysSupport" "U" "Ljdk/internal/misc/Unsafe;") ∈ lw_tbl := lw_at lw_m8 17 rfl
theorem q1860 : (Jvm.Cond.methodLink "jdk/internal/util/ArraysSupport" (30 : Nat) ({ cls := "jdk/internal/misc/Unsafe", name := "getLongUnaligned", desc := "(Ljava/lang/Object;J)J" } : Jvm.MethodName)) ∈ lw_all := lw_g (lw_at lw_m8 18 rfl) rfl
theorem q1912 : (Jvm.Cond.fieldLink "jdk/internal/util/ArraysSupport" (36 : Nat) "jdk/internal/util/ArraysSupport" "BIG_ENDIAN" "Z") ∈ lw_all := lw_g (lw_at lw_m8 70 rfl) rfl
theorem q1913 : (Jvm.Cond.laysStatic "jdk/internal/util/ArraysSupport" "BIG_ENDIAN" "Z") ∈ lw_tbl := lw_at lw_m8 71 rfl
theorem q1914 : (Jvm.Cond.methodLink "jdk/internal/util/ArraysSupport" (40 : Nat) ({ cls := "java/lang/Long", name := "numberOfLeadingZeros", desc := "(J)I" } : Jvm.MethodName)) ∈ lw_all := lw_g (lw_at lw_m8 72 rfl) rfl
theorem q1918 : (Jvm.Cond.fieldLink "jdk/internal/util/ArraysSupport" (46 : Nat) "jdk/internal/util/ArraysSupport" "LOG2_BYTE_BIT_SIZE" "I") ∈ lw_all := lw_g (lw_at lw_m8 76 rfl) rfl
theorem q1919 : (Jvm.Cond.laysStatic "jdk/internal/util/ArraysSupport" "LOG2_BYTE_BIT_SIZE" "I") ∈ lw_tbl := lw_at lw_m8 77 rfl
theorem q1920 : (Jvm.Cond.methodLink "jdk/internal/util/ArraysSupport" (49 : Nat) ({ cls := "java/lang/Long", name := "numberOfTrailingZeros", desc := "(J)I" } : Jvm.MethodName)) ∈ lw_all := lw_g (lw_at lw_m8 78 rfl) rfl
theorem q1926 : (Jvm.Cond.fieldLink "jdk/internal/util/ArraysSupport" (51 : Nat) "jdk/internal/util/ArraysSupport" "LOG2_ARRAY_INT_INDEX_SCALE" "I") ∈ lw_all := lw_g (lw_at lw_m8 84 rfl) rfl
theorem q1927 : (Jvm.Cond.laysStatic "jdk/internal/util/ArraysSupport" "LOG2_ARRAY_INT_INDEX_SCALE" "I") ∈ lw_tbl := lw_at lw_m8 85 rfl
theorem q1928 : (Jvm.Cond.methodLink "jdk/internal/util/ArraysSupport" (54 : Nat) ({ cls := "jdk/internal/misc/Unsafe", name := "getIntUnaligned", desc := "(Ljava/lang/Object;J)I" } : Jvm.MethodName)) ∈ lw_all := lw_g (lw_at lw_m8 86 rfl) rfl
theorem q1945 : (Jvm.Cond.methodLink "jdk/internal/util/ArraysSupport" (58 : Nat) ({ cls := "java/lang/Integer", name := "numberOfLeadingZeros", desc := "(I)I" } : Jvm.MethodName)) ∈ lw_all := lw_g (lw_at lw_m8 103 rfl) rfl
theorem q1946 : (Jvm.Cond.methodLink "jdk/internal/util/ArraysSupport" (11 : Nat) ({ cls := "java/lang/Integer", name := "numberOfTrailingZeros", desc := "(I)I" } : Jvm.MethodName)) ∈ lw_all := lw_g (lw_at lw_m8 104 rfl) rfl
theorem q177 : (Jvm.Cond.initialized "java/lang/Math") ∈ lw_all := lw_g (lw_at lw_m1 15 rfl) rfl
theorem q367 : (Jvm.Cond.static ({ cls := "java/lang/Math", name := "max", desc := "(II)I" } : Jvm.MethodName)) ∈ lw_all := lw_g (lw_at lw_m1 205 rfl) rfl
theorem q368 : (Jvm.Cond.code ({ cls := "java/lang/Math", name := "max", desc := "(II)I" } : Jvm.MethodName) prog_33_method_65_code (2 : Nat) (Option.some Jvm.ClassFile.FieldType.int)) ∈ lw_all := lw_g (lw_at lw_m1 206 rfl) rfl
theorem q385 : (Jvm.Cond.static ({ cls := "java/lang/Math", name := "min", desc := "(II)I" } : Jvm.MethodName)) ∈ lw_all := lw_g (lw_at lw_m1 223 rfl) rfl
theorem q386 : (Jvm.Cond.code ({ cls := "java/lang/Math", name := "min", desc := "(II)I" } : Jvm.MethodName) prog_33_method_69_code (2 : Nat) (Option.some Jvm.ClassFile.FieldType.int)) ∈ lw_all := lw_g (lw_at lw_m1 224 rfl) rfl
theorem q710 : (Jvm.Cond.static ({ cls := "java/lang/Math", name := "multiplyHigh", desc := "(JJ)J" } : Jvm.MethodName)) ∈ lw_all := lw_g (lw_at lw_m3 68 rfl) rfl
theorem q711 : (Jvm.Cond.code ({ cls := "java/lang/Math", name := "multiplyHigh", desc := "(JJ)J" } : Jvm.MethodName) prog_33_method_45_code (20 : Nat) (Option.some Jvm.ClassFile.FieldType.long)) ∈ lw_all := lw_g (lw_at lw_m3 69 rfl) rfl
theorem q712 : (Jvm.Cond.constantLong "java/lang/Math" (138 : Nat) (4294967295 : Int64)) ∈ lw_all := lw_g (lw_at lw_m3 70 rfl) rfl
theorem q1586 : (Jvm.Cond.static ({ cls := "java/lang/Math", name := "abs", desc := "(I)I" } : Jvm.MethodName)) ∈ lw_all := lw_g (lw_at lw_m6 224 rfl) rfl
theorem q1587 : (Jvm.Cond.code ({ cls := "java/lang/Math", name := "abs", desc := "(I)I" } : Jvm.MethodName) prog_33_method_59_code (1 : Nat) (Option.some Jvm.ClassFile.FieldType.int)) ∈ lw_all := lw_g (lw_at lw_m6 225 rfl) rfl
theorem q2839 : (Jvm.Cond.static ({ cls := "java/lang/Math", name := "ceil", desc := "(D)D" } : Jvm.MethodName)) ∈ lw_all := lw_g (lw_at lw_m12 37 rfl) rfl
theorem q2840 : (Jvm.Cond.code ({ cls := "java/lang/Math", name := "ceil", desc := "(D)D" } : Jvm.MethodName) prog_33_method_16_code (2 : Nat) (Option.some Jvm.ClassFile.FieldType.double)) ∈ lw_all := lw_g (lw_at lw_m12 38 rfl) rfl
theorem q2841 : (Jvm.Cond.methodLink "java/lang/Math" (53 : Nat) ({ cls := "java/lang/StrictMath", name := "ceil", desc := "(D)D" } : Jvm.MethodName)) ∈ lw_all := lw_g (lw_at lw_m12 39 rfl) rfl
theorem q2849 : (Jvm.Cond.static ({ cls := "java/lang/Math", name := "getExponent", desc := "(D)I" } : Jvm.MethodName)) ∈ lw_all := lw_g (lw_at lw_m12 47 rfl) rfl
theorem q2850 : (Jvm.Cond.code ({ cls := "java/lang/Math", name := "getExponent", desc := "(D)I" } : Jvm.MethodName) prog_33_method_92_code (2 : Nat) (Option.some Jvm.ClassFile.FieldType.int)) ∈ lw_all := lw_g (lw_at lw_m12 48 rfl) rfl
theorem q2851 : (Jvm.Cond.methodLink "java/lang/Math" (79 : Nat) ({ cls := "java/lang/Double", name := "doubleToRawLongBits", desc := "(D)J" } : Jvm.MethodName)) ∈ lw_all := lw_g (lw_at lw_m12 49 rfl) rfl
theorem q2854 : (Jvm.Cond.constantLong "java/lang/Math" (87 : Nat) (9218868437227405312 : Int64)) ∈ lw_all := lw_g (lw_at lw_m12 52 rfl) rfl
theorem q2855 : (Jvm.Cond.constantLong "java/lang/Math" (322 : Nat) (1023 : Int64)) ∈ lw_all := lw_g (lw_at lw_m12 53 rfl) rfl
theorem q178 : (Jvm.Cond.initialized "java/util/Arrays") ∈ lw_all := lw_g (lw_at lw_m1 16 rfl) rfl
theorem q375 : (Jvm.Cond.static ({ cls := "java/util/Arrays", name := "copyOf", desc := "([BI)[B" } : Jvm.MethodName)) ∈ lw_all := lw_g (lw_at lw_m1 213 rfl) rfl
theorem q376 : (Jvm.Cond.code ({ cls := "java/util/Arrays", name := "copyOf", desc := "([BI)[B" } : Jvm.MethodName) prog_56_method_121_code (3 : Nat) (Option.some (Jvm.ClassFile.FieldType.array Jvm.ClassFile.FieldType.byte))) ∈ lw_all := lw_g (lw_at lw_m1 214 rfl) rfl
theorem q377 : (Jvm.Cond.methodLink "java/util/Arrays" (310 : Nat) ({ cls := "[B", name := "clone", desc := "()Ljava/lang/Object;" } : Jvm.MethodName)) ∈ lw_all := lw_g (lw_at lw_m1 215 rfl) rfl
theorem q383 : (Jvm.Cond.classLink "java/util/Arrays" (311 : Nat) "[B") ∈ lw_all := lw_g (lw_at lw_m1 221 rfl) rfl
theorem q384 : (Jvm.Cond.methodLink "java/util/Arrays" (304 : Nat) ({ cls := "java/lang/Math", name := "min", desc := "(II)I" } : Jvm.MethodName)) ∈ lw_all := lw_g (lw_at lw_m1 222 rfl) rfl
theorem q387 : (Jvm.Cond.methodLink "java/util/Arrays" (150 : Nat) ({ cls := "java/lang/System", name := "arraycopy", desc := "(Ljava/lang/Object;ILjava/lang/Object;II)V" } : Jvm.MethodName)) ∈ lw_all := lw_g (lw_at lw_m1 225 rfl) rfl
theorem q517 : (Jvm.Cond.static ({ cls := "java/util/Arrays", name := "copyOfRange", desc := "([BII)[B" } : Jvm.MethodName)) ∈ lw_all := lw_g (lw_at lw_m2 115 rfl) rfl
theorem q518 : (Jvm.Cond.code ({ cls := "java/util/Arrays", name := "copyOfRange", desc := "([BII)[B" } : Jvm.MethodName) prog_56_method_132_code (3 : Nat) (Option.some (Jvm.ClassFile.FieldType.array Jvm.ClassFile.FieldType.byte))) ∈ lw_all := lw_g (lw_at lw_m2 116 rfl) rfl
theorem q519 : (Jvm.Cond.methodLink "java/util/Arrays" (339 : Nat) ({ cls := "java/util/Arrays", name := "copyOfRangeByte", desc := "([BII)[B" } : Jvm.MethodName)) ∈ lw_all := lw_g (lw_at lw_m2 117 rfl) rfl
theorem q520 : (Jvm.Cond.static ({ cls := "java/util/Arrays", name := "copyOfRangeByte", desc := "([BII)[B" } : Jvm.MethodName)) ∈ lw_all := lw_g (lw_at lw_m2 118 rfl) rfl
theorem q521 : (Jvm.Cond.code ({ cls := "java/util/Arrays", name := "copyOfRangeByte", desc := "([BII)[B" } : Jvm.MethodName) prog_56_method_133_code (5 : Nat) (Option.some (Jvm.ClassFile.FieldType.array Jvm.ClassFile.FieldType.byte))) ∈ lw_all := lw_g (lw_at lw_m2 119 rfl) rfl
theorem q522 : (Jvm.Cond.methodLink "java/util/Arrays" (343 : Nat) ({ cls := "java/util/Arrays", name := "checkLength", desc := "(II)V" } : Jvm.MethodName)) ∈ lw_all := lw_g (lw_at lw_m2 120 rfl) rfl
theorem q523 : (Jvm.Cond.static ({ cls := "java/util/Arrays", name := "checkLength", desc := "(II)V" } : Jvm.MethodName)) ∈ lw_all := lw_g (lw_at lw_m2 121 rfl) rfl
theorem q524 : (Jvm.Cond.code ({ cls := "java/util/Arrays", name := "checkLength", desc := "(II)V" } : Jvm.MethodName) prog_56_method_131_code (2 : Nat) (Option.none : Option Jvm.ClassFile.FieldType)) ∈ lw_all := lw_g (lw_at lw_m2 122 rfl) rfl
theorem q525 : (Jvm.Cond.classLink "java/util/Arrays" (43 : Nat) "java/lang/IllegalArgumentException") ∈ lw_all := lw_g (lw_at lw_m2 123 rfl) rfl
theorem q526 : (Jvm.Cond.classLink "java/util/Arrays" (45 : Nat) "java/lang/StringBuilder") ∈ lw_all := lw_g (lw_at lw_m2 124 rfl) rfl
theorem q527 : (Jvm.Cond.methodLink "java/util/Arrays" (47 : Nat) ({ cls := "java/lang/StringBuilder", name := "<init>", desc := "()V" } : Jvm.MethodName)) ∈ lw_all := lw_g (lw_at lw_m2 125 rfl) rfl
theorem q528 : (Jvm.Cond.methodLink "java/util/Arrays" (54 : Nat) ({ cls := "java/lang/StringBuilder", name := "append", desc := "(I)Ljava/lang/StringBuilder;" } : Jvm.MethodName)) ∈ lw_all := lw_g (lw_at lw_m2 126 rfl) rfl
theorem q529 : (Jvm.Cond.stringRef "java/util/Arrays" (337 : Nat) " > ") ∈ lw_tbl := lw_at lw_m2 127 rfl
theorem q530 : (Jvm.Cond.methodLink "java/util/Arrays" (50 : Nat) ({ cls := "java/lang/StringBuilder", name := "append", desc := "(Ljava/lang/String;)Ljava/lang/StringBuilder;" } : Jvm.MethodName)) ∈ lw_all := lw_g (lw_at lw_m2 128 rfl) rfl
theorem q531 : (Jvm.Cond.methodLink "java/util/Arrays" (61 : Nat) ({ cls := "java/lang/StringBuilder", name := "toString", desc := "()Ljava/lang/String;" } : Jvm.MethodName)) ∈ lw_all := lw_g (lw_at lw_m2 129 rfl) rfl
theorem q532 : (Jvm.Cond.methodLink "java/util/Arrays" (65 : Nat) ({ cls := "java/lang/IllegalArgumentException", name := "<init>", desc := "(Ljava/lang/String;)V" } : Jvm.MethodName)) ∈ lw_all := lw_g (lw_at lw_m2 130 rfl) rfl
theorem q1337 : (Jvm.Cond.static ({ cls := "java/util/Arrays", name := "copyOf", desc := "([Ljava/lang/Object;I)[Ljava/lang/Object;" } : Jvm.MethodName)) ∈ lw_all := lw_g (lw_at lw_m5 215 rfl) rfl
theorem q1338 : (Jvm.Cond.code ({ cls := "java/util/Arrays", name := "copyOf", desc := "([Ljava/lang/Object;I)[Ljava/lang/Object;" } : Jvm.MethodName) prog_56_method_119_code (2 : Nat) (Option.some (Jvm.ClassFile.FieldType.array (Jvm.ClassFile.FieldType.object "java/lang/Object")))) ∈ lw_all := lw_g (lw_at lw_m5 216 rfl) rfl
theorem q1339 : (Jvm.Cond.methodLink "java/util/Arrays" (86 : Nat) ({ cls := "java/lang/Object", name := "getClass", desc := "()Ljava/lang/Class;" } : Jvm.MethodName)) ∈ lw_all := lw_g (lw_at lw_m5 217 rfl) rfl
theorem q1340 : (Jvm.Cond.methodLink "java/util/Arrays" (300 : Nat) ({ cls := "java/util/Arrays", name := "copyOf", desc := "([Ljava/lang/Object;ILjava/lang/Class;)[Ljava/lang/Object;" } : Jvm.MethodName)) ∈ lw_all := lw_g (lw_at lw_m5 218 rfl) rfl
theorem q1341 : (Jvm.Cond.static ({ cls := "java/util/Arrays", name := "copyOf", desc := "([Ljava/lang/Object;ILjava/lang/Class;)[Ljava/lang/Object;" } : Jvm.MethodName)) ∈ lw_all := lw_g (lw_at lw_m5 219 rfl) rfl
theorem q1342 : (Jvm.Cond.code ({ cls := "java/util/Arrays", name := "copyOf", desc := "([Ljava/lang/Object;ILjava/lang/Class;)[Ljava/lang/Object;" } : Jvm.MethodName) prog_56_method_120_code (4 : Nat) (Option.some (Jvm.ClassFile.FieldType.array (Jvm.ClassFile.FieldType.object "java/lang/Object")))) ∈ lw_all := lw_g (lw_at lw_m5 220 rfl) rfl
theorem q1343 : (Jvm.Cond.classLink "java/util/Arrays" (110 : Nat) "[Ljava/lang/Object;") ∈ lw_all := lw_g (lw_at lw_m5 221 rfl) rfl
theorem q1344 : (Jvm.Cond.classLink "java/util/Arrays" (2 : Nat) "java/lang/Object") ∈ lw_all := lw_g (lw_at lw_m5 222 rfl) rfl
theorem q2992 : (Jvm.Cond.static ({ cls := "java/util/Arrays", name := "fill", desc := "([BIIB)V" } : Jvm.MethodName)) ∈ lw_all := lw_g (lw_at lw_m12 190 rfl) rfl
theorem q2993 : (Jvm.Cond.code ({ cls := "java/util/Arrays", name := "fill", desc := "([BIIB)V" } : Jvm.MethodName) prog_56_method_110_code (5 : Nat) (Option.none : Option Jvm.ClassFile.FieldType)) ∈ lw_all := lw_g (lw_at lw_m12 191 rfl) rfl
theorem q2994 : (Jvm.Cond.methodLink "java/util/Arrays" (13 : Nat) ({ cls := "java/util/Arrays", name := "rangeCheck", desc := "(III)V" } : Jvm.MethodName)) ∈ lw_all := lw_g (lw_at lw_m12 192 rfl) rfl
theorem q2995 : (Jvm.Cond.static ({ cls := "java/util/Arrays", name := "rangeCheck", desc := "(III)V" } : Jvm.MethodName)) ∈ lw_all := lw_g (lw_at lw_m12 193 rfl) rfl
theorem q2996 : (Jvm.Cond.code ({ cls := "java/util/Arrays", name := "rangeCheck", desc := "(III)V" } : Jvm.MethodName) prog_56_method_30_code (3 : Nat) (Option.none : Option Jvm.ClassFile.FieldType)) ∈ lw_all := lw_g (lw_at lw_m12 194 rfl) rfl
theorem q2997 : (Jvm.Cond.stringRef "java/util/Arrays" (48 : Nat) "fromIndex(") ∈ lw_tbl := lw_at lw_m12 195 rfl
theorem q2998 : (Jvm.Cond.stringRef "java/util/Arrays" (57 : Nat) ") > toIndex(") ∈ lw_tbl := lw_at lw_m12 196 rfl
theorem q2999 : (Jvm.Cond.stringRef "java/util/Arrays" (59 : Nat) ")") ∈ lw_tbl := lw_at lw_m12 197 rfl
theorem q3000 : (Jvm.Cond.classLink "java/util/Arrays" (68 : Nat) "java/lang/ArrayIndexOutOfBoundsException") ∈ lw_all := lw_g (lw_at lw_m12 198 rfl) rfl
theorem q3011 : (Jvm.Cond.methodLink "java/util/Arrays" (70 : Nat) ({ cls := "java/lang/ArrayIndexOutOfBoundsException", name := "<init>", desc := "(I)V" } : Jvm.MethodName)) ∈ lw_all := lw_g (lw_at lw_m12 209 rfl) rfl
theorem q180 : (Jvm.Cond.initialized "jdk/internal/util/Preconditions") ∈ lw_all := lw_g (lw_at lw_m1 18 rfl) rfl
theorem q408 : (Jvm.Cond.laysStatic "jdk/internal/util/Preconditions" "SIOOBE_FORMATTER" "Ljava/util/function/BiFunction;") ∈ lw_tbl := lw_at lw_m2 6 rfl
theorem q410 : (Jvm.Cond.static ({ cls := "jdk/internal/util/Preconditions", name := "checkFromToIndex", desc := "(IIILjava/util/function/BiFunction;)I" } : Jvm.MethodName)) ∈ lw_all := lw_g (lw_at lw_m2 8 rfl) rfl
theorem q411 : (Jvm.Cond.code ({ cls := "jdk/internal/util/Preconditions", name := "checkFromToIndex", desc := "(IIILjava/util/function/BiFunction;)I" } : Jvm.MethodName) prog_93_method_12_code (4 : Nat) (Option.some Jvm.ClassFile.FieldType.int)) ∈ lw_all := lw_g (lw_at lw_m2 9 rfl) rfl
theorem q456 : (Jvm.Cond.static ({ cls := "jdk/internal/util/Preconditions", name := "checkFromIndexSize", desc := "(IIILjava/util/function/BiFunction;)I" } : Jvm.MethodName)) ∈ lw_all := lw_g (lw_at lw_m2 54 rfl) rfl
theorem q457 : (Jvm.Cond.code ({ cls := "jdk/internal/util/Preconditions", name := "checkFromIndexSize", desc := "(IIILjava/util/function/BiFunction;)I" } : Jvm.MethodName) prog_93_method_13_code (4 : Nat) (Option.some Jvm.ClassFile.FieldType.int)) ∈ lw_all := lw_g (lw_at lw_m2 55 rfl) rfl
theorem q812 : (Jvm.Cond.static ({ cls := "jdk/internal/util/Preconditions", name := "checkIndex", desc := "(IILjava/util/function/BiFunction;)I" } : Jvm.MethodName)) ∈ lw_all := lw_g (lw_at lw_m3 170 rfl) rfl
theorem q813 : (Jvm.Cond.code ({ cls := "jdk/internal/util/Preconditions", name := "checkIndex", desc := "(IILjava/util/function/BiFunction;)I" } : Jvm.MethodName) prog_93_method_11_code (3 : Nat) (Option.some Jvm.ClassFile.FieldType.int)) ∈ lw_all := lw_g (lw_at lw_m3 171 rfl) rfl
theorem q884 : (Jvm.Cond.laysStatic "jdk/internal/util/Preconditions" "IOOBE_FORMATTER" "Ljava/util/function/BiFunction;") ∈ lw_tbl := lw_at lw_m4 2 rfl
theorem q181 : (Jvm.Cond.initialized "java/lang/StringLatin1") ∈ lw_all := lw_g (lw_at lw_m1 19 rfl) rfl
theorem q444 : (Jvm.Cond.static ({ cls := "java/lang/StringLatin1", name := "inflate", desc := "([BI[BII)V" } : Jvm.MethodName)) ∈ lw_all := lw_g (lw_at lw_m2 42 rfl) rfl
theorem q445 : (Jvm.Cond.code ({ cls := "java/lang/StringLatin1", name := "inflate", desc := "([BI[BII)V" } : Jvm.MethodName) prog_41_method_50_code (5 : Nat) (Option.none : Option Jvm.ClassFile.FieldType)) ∈ lw_all := lw_g (lw_at lw_m2 43 rfl) rfl
theorem q446 : (Jvm.Cond.methodLink "java/lang/StringLatin1" (240 : Nat) ({ cls := "java/lang/StringUTF16", name := "inflate", desc := "([BI[BII)V" } : Jvm.MethodName)) ∈ lw_all := lw_g (lw_at lw_m2 44 rfl) rfl
theorem q770 : (Jvm.Cond.static ({ cls := "java/lang/StringLatin1", name := "canEncode", desc := "(C)Z" } : Jvm.MethodName)) ∈ lw_all := lw_g (lw_at lw_m3 128 rfl) rfl
theorem q771 : (Jvm.Cond.code ({ cls := "java/lang/StringLatin1", name := "canEncode", desc := "(C)Z" } : Jvm.MethodName) prog_41_method_3_code (1 : Nat) (Option.some Jvm.ClassFile.FieldType.boolean)) ∈ lw_all := lw_g (lw_at lw_m3 129 rfl) rfl
theorem q904 : (Jvm.Cond.static ({ cls := "java/lang/StringLatin1", name := "charAt", desc := "([BI)C" } : Jvm.MethodName)) ∈ lw_all := lw_g (lw_at lw_m4 22 rfl) rfl
theorem q905 : (Jvm.Cond.code ({ cls := "java/lang/StringLatin1", name := "charAt", desc := "([BI)C" } : Jvm.MethodName) prog_41_method_2_code (2 : Nat) (Option.some Jvm.ClassFile.FieldType.char)) ∈ lw_all := lw_g (lw_at lw_m4 23 rfl) rfl
theorem q906 : (Jvm.Cond.methodLink "java/lang/StringLatin1" (9 : Nat) ({ cls := "java/lang/String", name := "checkIndex", desc := "(II)V" } : Jvm.MethodName)) ∈ lw_all := lw_g (lw_at lw_m4 24 rfl) rfl
theorem q1553 : (Jvm.Cond.static ({ cls := "java/lang/StringLatin1", name := "equals", desc := "([B[B)Z" } : Jvm.MethodName)) ∈ lw_all := lw_g (lw_at lw_m6 191 rfl) rfl
theorem q1554 : (Jvm.Cond.code ({ cls := "java/lang/StringLatin1", name := "equals", desc := "([B[B)Z" } : Jvm.MethodName) prog_41_method_13_code (3 : Nat) (Option.some Jvm.ClassFile.FieldType.boolean)) ∈ lw_all := lw_g (lw_at lw_m6 192 rfl) rfl
theorem q1674 : (Jvm.Cond.static ({ cls := "java/lang/StringLatin1", name := "hashCode", desc := "([B)I" } : Jvm.MethodName)) ∈ lw_all := lw_g (lw_at lw_m7 72 rfl) rfl
theorem q1675 : (Jvm.Cond.code ({ cls := "java/lang/StringLatin1", name := "hashCode", desc := "([B)I" } : Jvm.MethodName) prog_41_method_21_code (1 : Nat) (Option.some Jvm.ClassFile.FieldType.int)) ∈ lw_all := lw_g (lw_at lw_m7 73 rfl) rfl
theorem q1676 : (Jvm.Cond.methodLink "java/lang/StringLatin1" (84 : Nat) ({ cls := "jdk/internal/util/ArraysSupport", name := "vectorizedHashCode", desc := "(Ljava/lang/Object;IIII)I" } : Jvm.MethodName)) ∈ lw_all := lw_g (lw_at lw_m7 74 rfl) rfl
theorem q1840 : (Jvm.Cond.static ({ cls := "java/lang/StringLatin1", name := "compareTo", desc := "([B[B)I" } : Jvm.MethodName)) ∈ lw_all := lw_g (lw_at lw_m7 238 rfl) rfl
theorem q1841 : (Jvm.Cond.code ({ cls := "java/lang/StringLatin1", name := "compareTo", desc := "([B[B)I" } : Jvm.MethodName) prog_41_method_14_code (4 : Nat) (Option.some Jvm.ClassFile.FieldType.int)) ∈ lw_all := lw_g (lw_at lw_m7 239 rfl) rfl
theorem q1842 : (Jvm.Cond.methodLink "java/lang/StringLatin1" (34 : Nat) ({ cls := "java/lang/StringLatin1", name := "compareTo", desc := "([B[BII)I" } : Jvm.MethodName)) ∈ lw_all := lw_g (lw_at lw_m8 0 rfl) rfl
theorem q1843 : (Jvm.Cond.static ({ cls := "java/lang/StringLatin1", name := "compareTo", desc := "([B[BII)I" } : Jvm.MethodName)) ∈ lw_all := lw_g (lw_at lw_m8 1 rfl) rfl
theorem q1844 : (Jvm.Cond.code ({ cls := "java/lang/StringLatin1", name := "compareTo", desc := "([B[BII)I" } : Jvm.MethodName) prog_41_method_15_code (6 : Nat) (Option.some Jvm.ClassFile.FieldType.int)) ∈ lw_all := lw_g (lw_at lw_m8 2 rfl) rfl
theorem q1845 : (Jvm.Cond.methodLink "java/lang/StringLatin1" (38 : Nat) ({ cls := "java/lang/Math", name := "min", desc := "(II)I" } : Jvm.MethodName)) ∈ lw_all := lw_g (lw_at lw_m8 3 rfl) rfl
theorem q1846 : (Jvm.Cond.methodLink "java/lang/StringLatin1" (44 : Nat) ({ cls := "jdk/internal/util/ArraysSupport", name := "mismatch", desc := "([B[BI)I" } : Jvm.MethodName)) ∈ lw_all := lw_g (lw_at lw_m8 4 rfl) rfl
theorem q1947 : (Jvm.Cond.methodLink "java/lang/StringLatin1" (50 : Nat) ({ cls := "java/lang/StringLatin1", name := "getChar", desc := "([BI)C" } : Jvm.MethodName)) ∈ lw_all := lw_g (lw_at lw_m8 105 rfl) rfl
theorem q1948 : (Jvm.Cond.static ({ cls := "java/lang/StringLatin1", name := "getChar", desc := "([BI)C" } : Jvm.MethodName)) ∈ lw_all := lw_g (lw_at lw_m8 106 rfl) rfl
theorem q1949 : (Jvm.Cond.code ({ cls := "java/lang/StringLatin1", name := "getChar", desc := "([BI)C" } : Jvm.MethodName) prog_41_method_44_code (2 : Nat) (Option.some Jvm.ClassFile.FieldType.char)) ∈ lw_all := lw_g (lw_at lw_m8 107 rfl) rfl
theorem q1958 : (Jvm.Cond.static ({ cls := "java/lang/StringLatin1", name := "compareToUTF16", desc := "([B[B)I" } : Jvm.MethodName)) ∈ lw_all := lw_g (lw_at lw_m8 116 rfl) rfl
theorem q1959 : (Jvm.Cond.code ({ cls := "java/lang/StringLatin1", name := "compareToUTF16", desc := "([B[B)I" } : Jvm.MethodName) prog_41_method_16_code (4 : Nat) (Option.some Jvm.ClassFile.FieldType.int)) ∈ lw_all := lw_g (lw_at lw_m8 117 rfl) rfl
theorem q1960 : (Jvm.Cond.methodLink "java/lang/StringLatin1" (54 : Nat) ({ cls := "java/lang/StringLatin1", name := "length", desc := "([B)I" } : Jvm.MethodName)) ∈ lw_all := lw_g (lw_at lw_m8 118 rfl) rfl
theorem q1961 : (Jvm.Cond.static ({ cls := "java/lang/StringLatin1", name := "length", desc := "([B)I" } : Jvm.MethodName)) ∈ lw_all := lw_g (lw_at lw_m8 119 rfl) rfl
theorem q1962 : (Jvm.Cond.code ({ cls := "java/lang/StringLatin1", name := "length", desc := "([B)I" } : Jvm.MethodName) prog_41_method_5_code (1 : Nat) (Option.some Jvm.ClassFile.FieldType.int)) ∈ lw_all := lw_g (lw_at lw_m8 120 rfl) rfl
theorem q1963 : (Jvm.Cond.methodLink "java/lang/StringLatin1" (58 : Nat) ({ cls := "java/lang/StringUTF16", name := "length", desc := "([B)I" } : Jvm.MethodName)) ∈ lw_all := lw_g (lw_at lw_m8 121 rfl) rfl
theorem q1964 : (Jvm.Cond.methodLink "java/lang/StringLatin1" (59 : Nat) ({ cls := "java/lang/StringLatin1", name := "compareToUTF16Values", desc := "([B[BII)I" } : Jvm.MethodName)) ∈ lw_all := lw_g (lw_at lw_m8 122 rfl) rfl
theorem q1965 : (Jvm.Cond.static ({ cls := "java/lang/StringLatin1", name := "compareToUTF16Values", desc := "([B[BII)I" } : Jvm.MethodName)) ∈ lw_all := lw_g (lw_at lw_m8 123 rfl) rfl
theorem q1966 : (Jvm.Cond.code ({ cls := "java/lang/StringLatin1", name := "compareToUTF16Values", desc := "([B[BII)I" } : Jvm.MethodName) prog_41_method_18_code (8 : Nat) (Option.some Jvm.ClassFile.FieldType.int)) ∈ lw_all := lw_g (lw_at lw_m8 124 rfl) rfl
theorem q1967 : (Jvm.Cond.methodLink "java/lang/StringLatin1" (65 : Nat) ({ cls := "java/lang/StringUTF16", name := "getChar", desc := "([BI)C" } : Jvm.MethodName)) ∈ lw_all := lw_g (lw_at lw_m8 125 rfl) rfl
theorem q1997 : (Jvm.Cond.static ({ cls := "java/lang/StringLatin1", name := "compareToUTF16", desc := "([B[BII)I" } : Jvm.MethodName)) ∈ lw_all := lw_g (lw_at lw_m8 155 rfl) rfl
theorem q1998 : (Jvm.Cond.code ({ cls := "java/lang/StringLatin1", name := "compareToUTF16", desc := "([B[BII)I" } : Jvm.MethodName) prog_41_method_17_code (4 : Nat) (Option.some Jvm.ClassFile.FieldType.int)) ∈ lw_all := lw_g (lw_at lw_m8 156 rfl) rfl
theorem q1999 : (Jvm.Cond.methodLink "java/lang/StringLatin1" (62 : Nat) ({ cls := "java/lang/String", name := "checkOffset", desc := "(II)V" } : Jvm.MethodName)) ∈ lw_all := lw_g (lw_at lw_m8 157 rfl) rfl
theorem q2989 : (Jvm.Cond.static ({ cls := "java/lang/StringLatin1", name := "fillNull", desc := "([BII)V" } : Jvm.MethodName)) ∈ lw_all := lw_g (lw_at lw_m12 187 rfl) rfl
theorem q2990 : (Jvm.Cond.code ({ cls := "java/lang/StringLatin1", name := "fillNull", desc := "([BII)V" } : Jvm.MethodName) prog_41_method_48_code (3 : Nat) (Option.none : Option Jvm.ClassFile.FieldType)) ∈ lw_all := lw_g (lw_at lw_m12 188 rfl) rfl
theorem q2991 : (Jvm.Cond.methodLink "java/lang/StringLatin1" (236 : Nat) ({ cls := "java/util/Arrays", name := "fill", desc := "([BIIB)V" } : Jvm.MethodName)) ∈ lw_all := lw_g (lw_at lw_m12 189 rfl) rfl
theorem q182 : (Jvm.Cond.initialized "java/lang/Number") ∈ lw_all := lw_g (lw_at lw_m1 20 rfl) rfl
theorem q2275 : (Jvm.Cond.instanceMethod ({ cls := "java/lang/Number", name := "<init>", desc := "()V" } : Jvm.MethodName)) ∈ lw_all := lw_g (lw_at lw_m9 193 rfl) rfl
theorem q2276 : (Jvm.Cond.code ({ cls := "java/lang/Number", name := "<init>", desc := "()V" } : Jvm.MethodName) prog_34_method_1_code (1 : Nat) (Option.none : Option Jvm.ClassFile.FieldType)) ∈ lw_all := lw_g (lw_at lw_m9 194 rfl) rfl
theorem q2277 : (Jvm.Cond.methodLink "java/lang/Number" (1 : Nat) ({ cls := "java/lang/Object", name := "<init>", desc := "()V" } : Jvm.MethodName)) ∈ lw_all := lw_g (lw_at lw_m9 195 rfl) rfl
theorem q183 : (Jvm.Cond.initialized "java/lang/Integer") ∈ lw_all := lw_g (lw_at lw_m1 21 rfl) rfl
theorem q472 : (Jvm.Cond.static ({ cls := "java/lang/Integer", name := "stringSize", desc := "(I)I" } : Jvm.MethodName)) ∈ lw_all := lw_g (lw_at lw_m2 70 rfl) rfl
theorem q473 : (Jvm.Cond.code ({ cls := "java/lang/Integer", name := "stringSize", desc := "(I)I" } : Jvm.MethodName) prog_29_method_13_code (4 : Nat) (Option.some Jvm.ClassFile.FieldType.int)) ∈ lw_all := lw_g (lw_at lw_m2 71 rfl) rfl
theorem q475 : (Jvm.Cond.static ({ cls := "java/lang/Integer", name := "getChars", desc := "(II[B)I" } : Jvm.MethodName)) ∈ lw_all := lw_g (lw_at lw_m2 73 rfl) rfl
theorem q476 : (Jvm.Cond.code ({ cls := "java/lang/Integer", name := "getChars", desc := "(II[B)I" } : Jvm.MethodName) prog_29_method_12_code (7 : Nat) (Option.some Jvm.ClassFile.FieldType.int)) ∈ lw_all := lw_g (lw_at lw_m2 74 rfl) rfl
theorem q477 : (Jvm.Cond.fieldLink "java/lang/Integer" (83 : Nat) "java/lang/Integer" "DigitOnes" "[B") ∈ lw_all := lw_g (lw_at lw_m2 75 rfl) rfl
theorem q478 : (Jvm.Cond.laysStatic "java/lang/Integer" "DigitOnes" "[B") ∈ lw_tbl := lw_at lw_m2 76 rfl
theorem q479 : (Jvm.Cond.fieldLink "java/lang/Integer" (87 : Nat) "java/lang/Integer" "DigitTens" "[B") ∈ lw_all := lw_g (lw_at lw_m2 77 rfl) rfl
theorem q480 : (Jvm.Cond.laysStatic "java/lang/Integer" "DigitTens" "[B") ∈ lw_tbl := lw_at lw_m2 78 rfl
theorem q682 : (Jvm.Cond.static ({ cls := "java/lang/Integer", name := "numberOfLeadingZeros", desc := "(I)I" } : Jvm.MethodName)) ∈ lw_all := lw_g (lw_at lw_m3 40 rfl) rfl
theorem q683 : (Jvm.Cond.code ({ cls := "java/lang/Integer", name := "numberOfLeadingZeros", desc := "(I)I" } : Jvm.MethodName) prog_29_method_47_code (2 : Nat) (Option.some Jvm.ClassFile.FieldType.int)) ∈ lw_all := lw_g (lw_at lw_m3 41 rfl) rfl
theorem q684 : (Jvm.Cond.constant "java/lang/Integer" (264 : Nat) (65536 : Int32)) ∈ lw_all := lw_g (lw_at lw_m3 42 rfl) rfl
theorem q988 : (Jvm.Cond.selects "java/lang/Integer" ({ cls := "java/lang/Object", name := "getClass", desc := "()Ljava/lang/Class;" } : Jvm.MethodName) ({ cls := "java/lang/Object", name := "getClass", desc := "()Ljava/lang/Class;" } : Jvm.MethodName)) ∈ lw_all := lw_g (lw_at lw_m4 106 rfl) rfl
theorem q1053 : (Jvm.Cond.selects "java/lang/Integer" ({ cls := "java/lang/Object", name := "toString", desc := "()Ljava/lang/String;" } : Jvm.MethodName) ({ cls := "java/lang/Integer", name := "toString", desc := "()Ljava/lang/String;" } : Jvm.MethodName)) ∈ lw_all := lw_g (lw_at lw_m4 171 rfl) rfl
theorem q1054 : (Jvm.Cond.instanceMethod ({ cls := "java/lang/Integer", name := "toString", desc := "()Ljava/lang/String;" } : Jvm.MethodName)) ∈ lw_all := lw_g (lw_at lw_m4 172 rfl) rfl
theorem q1055 : (Jvm.Cond.code ({ cls := "java/lang/Integer", name := "toString", desc := "()Ljava/lang/String;" } : Jvm.MethodName) prog_29_method_31_code (1 : Nat) (Option.some (Jvm.ClassFile.FieldType.object "java/lang/String"))) ∈ lw_all := lw_g (lw_at lw_m4 173 rfl) rfl
theorem q1056 : (Jvm.Cond.methodLink "java/lang/Integer" (9 : Nat) ({ cls := "java/lang/Integer", name := "toString", desc := "(I)Ljava/lang/String;" } : Jvm.MethodName)) ∈ lw_all := lw_g (lw_at lw_m4 174 rfl) rfl
theorem q1057 : (Jvm.Cond.static ({ cls := "java/lang/Integer", name := "toString", desc := "(I)Ljava/lang/String;" } : Jvm.MethodName)) ∈ lw_all := lw_g (lw_at lw_m4 175 rfl) rfl
theorem q1058 : (Jvm.Cond.code ({ cls := "java/lang/Integer", name := "toString", desc := "(I)Ljava/lang/String;" } : Jvm.MethodName) prog_29_method_10_code (3 : Nat) (Option.some (Jvm.ClassFile.FieldType.object "java/lang/String"))) ∈ lw_all := lw_g (lw_at lw_m4 176 rfl) rfl
theorem q1059 : (Jvm.Cond.methodLink "java/lang/Integer" (72 : Nat) ({ cls := "java/lang/Integer", name := "stringSize", desc := "(I)I" } : Jvm.MethodName)) ∈ lw_all := lw_g (lw_at lw_m4 177 rfl) rfl
theorem q1060 : (Jvm.Cond.fieldLink "java/lang/Integer" (13 : Nat) "java/lang/String" "COMPACT_STRINGS" "Z") ∈ lw_all := lw_g (lw_at lw_m4 178 rfl) rfl
theorem q1061 : (Jvm.Cond.methodLink "java/lang/Integer" (75 : Nat) ({ cls := "java/lang/Integer", name := "getChars", desc := "(II[B)I" } : Jvm.MethodName)) ∈ lw_all := lw_g (lw_at lw_m4 179 rfl) rfl
theorem q1062 : (Jvm.Cond.classLink "java/lang/Integer" (5 : Nat) "java/lang/String") ∈ lw_all := lw_g (lw_at lw_m4 180 rfl) rfl
theorem q1063 : (Jvm.Cond.methodLink "java/lang/Integer" (65 : Nat) ({ cls := "java/lang/String", name := "<init>", desc := "([BB)V" } : Jvm.MethodName)) ∈ lw_all := lw_g (lw_at lw_m4 181 rfl) rfl
theorem q1066 : (Jvm.Cond.methodLink "java/lang/Integer" (79 : Nat) ({ cls := "java/lang/StringUTF16", name := "getChars", desc := "(II[B)I" } : Jvm.MethodName)) ∈ lw_all := lw_g (lw_at lw_m4 184 rfl) rfl
theorem q1664 : (Jvm.Cond.selects "java/lang/Integer" ({ cls := "java/lang/Object", name := "hashCode", desc := "()I" } : Jvm.MethodName) ({ cls := "java/lang/Integer", name := "hashCode", desc := "()I" } : Jvm.MethodName)) ∈ lw_all := lw_g (lw_at lw_m7 62 rfl) rfl
theorem q1665 : (Jvm.Cond.instanceMethod ({ cls := "java/lang/Integer", name := "hashCode", desc := "()I" } : Jvm.MethodName)) ∈ lw_all := lw_g (lw_at lw_m7 63 rfl) rfl
theorem q1666 : (Jvm.Cond.code ({ cls := "java/lang/Integer", name := "hashCode", desc := "()I" } : Jvm.MethodName) prog_29_method_32_code (1 : Nat) (Option.some Jvm.ClassFile.FieldType.int)) ∈ lw_all := lw_g (lw_at lw_m7 64 rfl) rfl
theorem q1667 : (Jvm.Cond.methodLink "java/lang/Integer" (208 : Nat) ({ cls := "java/lang/Integer", name := "hashCode", desc := "(I)I" } : Jvm.MethodName)) ∈ lw_all := lw_g (lw_at lw_m7 65 rfl) rfl
theorem q1668 : (Jvm.Cond.static ({ cls := "java/lang/Integer", name := "hashCode", desc := "(I)I" } : Jvm.MethodName)) ∈ lw_all := lw_g (lw_at lw_m7 66 rfl) rfl
theorem q1669 : (Jvm.Cond.code ({ cls := "java/lang/Integer", name := "hashCode", desc := "(I)I" } : Jvm.MethodName) prog_29_method_33_code (1 : Nat) (Option.some Jvm.ClassFile.FieldType.int)) ∈ lw_all := lw_g (lw_at lw_m7 67 rfl) rfl
theorem q1756 : (Jvm.Cond.selects "java/lang/Integer" ({ cls := "java/lang/Object", name := "equals", desc := "(Ljava/lang/Object;)Z" } : Jvm.MethodName) ({ cls := "java/lang/Integer", name := "equals", desc := "(Ljava/lang/Object;)Z" } : Jvm.MethodName)) ∈ lw_all := lw_g (lw_at lw_m7 154 rfl) rfl
theorem q1757 : (Jvm.Cond.instanceMethod ({ cls := "java/lang/Integer", name := "equals", desc := "(Ljava/lang/Object;)Z" } : Jvm.MethodName)) ∈ lw_all := lw_g (lw_at lw_m7 155 rfl) rfl
theorem q1758 : (Jvm.Cond.code ({ cls := "java/lang/Integer", name := "equals", desc := "(Ljava/lang/Object;)Z" } : Jvm.MethodName) prog_29_method_34_code (2 : Nat) (Option.some Jvm.ClassFile.FieldType.boolean)) ∈ lw_all := lw_g (lw_at lw_m7 156 rfl) rfl
theorem q1759 : (Jvm.Cond.classLink "java/lang/Integer" (1 : Nat) "java/lang/Integer") ∈ lw_all := lw_g (lw_at lw_m7 157 rfl) rfl
theorem q1760 : (Jvm.Cond.methodLink "java/lang/Integer" (211 : Nat) ({ cls := "java/lang/Integer", name := "intValue", desc := "()I" } : Jvm.MethodName)) ∈ lw_all := lw_g (lw_at lw_m7 158 rfl) rfl
theorem q1761 : (Jvm.Cond.instanceMethod ({ cls := "java/lang/Integer", name := "intValue", desc := "()I" } : Jvm.MethodName)) ∈ lw_all := lw_g (lw_at lw_m7 159 rfl) rfl
theorem q1762 : (Jvm.Cond.selects "java/lang/Integer" ({ cls := "java/lang/Integer", name := "intValue", desc := "()I" } : Jvm.MethodName) ({ cls := "java/lang/Integer", name := "intValue", desc := "()I" } : Jvm.MethodName)) ∈ lw_all := lw_g (lw_at lw_m7 160 rfl) rfl
theorem q1763 : (Jvm.Cond.code ({ cls := "java/lang/Integer", name := "intValue", desc := "()I" } : Jvm.MethodName) prog_29_method_27_code (1 : Nat) (Option.some Jvm.ClassFile.FieldType.int)) ∈ lw_all := lw_g (lw_at lw_m7 161 rfl) rfl
theorem q1816 : (Jvm.Cond.castable "java/lang/Integer" "java/lang/Comparable") ∈ lw_tbl := lw_at lw_m7 214 rfl
theorem q1817 : (Jvm.Cond.selects "java/lang/Integer" ({ cls := "java/lang/Comparable", name := "compareTo", desc := "(Ljava/lang/Object;)I" } : Jvm.MethodName) ({ cls := "java/lang/Integer", name := "compareTo", desc := "(Ljava/lang/Object;)I" } : Jvm.MethodName)) ∈ lw_all := lw_g (lw_at lw_m7 215 rfl) rfl
theorem q1818 : (Jvm.Cond.unhidden "java/lang/Integer" "compareTo" "(Ljava/lang/Object;)I") ∈ lw_tbl := lw_at lw_m7 216 rfl
theorem q1819 : (Jvm.Cond.instanceMethod ({ cls := "java/lang/Integer", name := "compareTo", desc := "(Ljava/lang/Object;)I" } : Jvm.MethodName)) ∈ lw_all := lw_g (lw_at lw_m7 217 rfl) rfl
theorem q1820 : (Jvm.Cond.publicMethod ({ cls := "java/lang/Integer", name := "compareTo", desc := "(Ljava/lang/Object;)I" } : Jvm.MethodName)) ∈ lw_tbl := lw_at lw_m7 218 rfl
theorem q1821 : (Jvm.Cond.code ({ cls := "java/lang/Integer", name := "compareTo", desc := "(Ljava/lang/Object;)I" } : Jvm.MethodName) prog_29_method_63_code (2 : Nat) (Option.some Jvm.ClassFile.FieldType.int)) ∈ lw_all := lw_g (lw_at lw_m7 219 rfl) rfl
theorem q1822 : (Jvm.Cond.methodLink "java/lang/Integer" (284 : Nat) ({ cls := "java/lang/Integer", name := "compareTo", desc := "(Ljava/lang/Integer;)I" } : Jvm.MethodName)) ∈ lw_all := lw_g (lw_at lw_m7 220 rfl) rfl
theorem q1823 : (Jvm.Cond.instanceMethod ({ cls := "java/lang/Integer", name := "compareTo", desc := "(Ljava/lang/Integer;)I" } : Jvm.MethodName)) ∈ lw_all := lw_g (lw_at lw_m7 221 rfl) rfl
theorem q1824 : (Jvm.Cond.selects "java/lang/Integer" ({ cls := "java/lang/Integer", name := "compareTo", desc := "(Ljava/lang/Integer;)I" } : Jvm.MethodName) ({ cls := "java/lang/Integer", name := "compareTo", desc := "(Ljava/lang/Integer;)I" } : Jvm.MethodName)) ∈ lw_all := lw_g (lw_at lw_m7 222 rfl) rfl
theorem q1825 : (Jvm.Cond.code ({ cls := "java/lang/Integer", name := "compareTo", desc := "(Ljava/lang/Integer;)I" } : Jvm.MethodName) prog_29_method_39_code (2 : Nat) (Option.some Jvm.ClassFile.FieldType.int)) ∈ lw_all := lw_g (lw_at lw_m7 223 rfl) rfl
theorem q1826 : (Jvm.Cond.methodLink "java/lang/Integer" (259 : Nat) ({ cls := "java/lang/Integer", name := "compare", desc := "(II)I" } : Jvm.MethodName)) ∈ lw_all := lw_g (lw_at lw_m7 224 rfl) rfl
theorem q1827 : (Jvm.Cond.static ({ cls := "java/lang/Integer", name := "compare", desc := "(II)I" } : Jvm.MethodName)) ∈ lw_all := lw_g (lw_at lw_m7 225 rfl) rfl
theorem q1828 : (Jvm.Cond.code ({ cls := "java/lang/Integer", name := "compare", desc := "(II)I" } : Jvm.MethodName) prog_29_method_40_code (2 : Nat) (Option.some Jvm.ClassFile.FieldType.int)) ∈ lw_all := lw_g (lw_at lw_m7 226 rfl) rfl
theorem q1924 : (Jvm.Cond.static ({ cls := "java/lang/Integer", name := "numberOfTrailingZeros", desc := "(I)I" } : Jvm.MethodName)) ∈ lw_all := lw_g (lw_at lw_m8 82 rfl) rfl
theorem q1925 : (Jvm.Cond.code ({ cls := "java/lang/Integer", name := "numberOfTrailingZeros", desc := "(I)I" } : Jvm.MethodName) prog_29_method_48_code (2 : Nat) (Option.some Jvm.ClassFile.FieldType.int)) ∈ lw_all := lw_g (lw_at lw_m8 83 rfl) rfl
theorem q2264 : (Jvm.Cond.static ({ cls := "java/lang/Integer", name := "valueOf", desc := "(I)Ljava/lang/Integer;" } : Jvm.MethodName)) ∈ lw_all := lw_g (lw_at lw_m9 182 rfl) rfl
theorem q2265 : (Jvm.Cond.code ({ cls := "java/lang/Integer", name := "valueOf", desc := "(I)Ljava/lang/Integer;" } : Jvm.MethodName) prog_29_method_22_code (1 : Nat) (Option.some (Jvm.ClassFile.FieldType.object "java/lang/Integer"))) ∈ lw_all := lw_g (lw_at lw_m9 183 rfl) rfl
theorem q2266 : (Jvm.Cond.fieldLink "java/lang/Integer" (191 : Nat) "java/lang/Integer$IntegerCache" "high" "I") ∈ lw_all := lw_g (lw_at lw_m9 184 rfl) rfl
theorem q2268 : (Jvm.Cond.fieldLink "java/lang/Integer" (195 : Nat) "java/lang/Integer$IntegerCache" "cache" "[Ljava/lang/Integer;") ∈ lw_all := lw_g (lw_at lw_m9 186 rfl) rfl
theorem q2270 : (Jvm.Cond.instantiable "java/lang/Integer" (1 : Nat)) ∈ lw_all := lw_g (lw_at lw_m9 188 rfl) rfl
theorem q2271 : (Jvm.Cond.methodLink "java/lang/Integer" (199 : Nat) ({ cls := "java/lang/Integer", name := "<init>", desc := "(I)V" } : Jvm.MethodName)) ∈ lw_all := lw_g (lw_at lw_m9 189 rfl) rfl
theorem q2272 : (Jvm.Cond.instanceMethod ({ cls := "java/lang/Integer", name := "<init>", desc := "(I)V" } : Jvm.MethodName)) ∈ lw_all := lw_g (lw_at lw_m9 190 rfl) rfl
theorem q2273 : (Jvm.Cond.code ({ cls := "java/lang/Integer", name := "<init>", desc := "(I)V" } : Jvm.MethodName) prog_29_method_23_code (2 : Nat) (Option.none : Option Jvm.ClassFile.FieldType)) ∈ lw_all := lw_g (lw_at lw_m9 191 rfl) rfl
theorem q2274 : (Jvm.Cond.methodLink "java/lang/Integer" (202 : Nat) ({ cls := "java/lang/Number", name := "<init>", desc := "()V" } : Jvm.MethodName)) ∈ lw_all := lw_g (lw_at lw_m9 192 rfl) rfl
theorem q2278 : (Jvm.Cond.fieldLink "java/lang/Integer" (205 : Nat) "java/lang/Integer" "value" "I") ∈ lw_all := lw_g (lw_at lw_m9 196 rfl) rfl
theorem q2279 : (Jvm.Cond.laysFinal "java/lang/Integer" "java/lang/Integer" "value" "I") ∈ lw_all := lw_g (lw_at lw_m9 197 rfl) rfl
theorem q2280 : (Jvm.Cond.soleField "java/lang/Integer" "value") ∈ lw_all := lw_g (lw_at lw_m9 198 rfl) rfl
theorem q2281 : (Jvm.Cond.superclass "java/lang/Integer" "java/lang/Number") ∈ lw_all := lw_g (lw_at lw_m9 199 rfl) rfl
theorem q4634 : (Jvm.Cond.castable "java/lang/Integer" "java/lang/Object") ∈ lw_tbl := lw_at lw_m19 152 rfl
theorem q184 : (Jvm.Cond.initialized "java/util/AbstractSet") ∈ lw_all := lw_g (lw_at lw_m1 22 rfl) rfl
theorem q609 : (Jvm.Cond.instanceMethod ({ cls := "java/util/AbstractSet", name := "<init>", desc := "()V" } : Jvm.MethodName)) ∈ lw_all := lw_g (lw_at lw_m2 207 rfl) rfl
theorem q610 : (Jvm.Cond.code ({ cls := "java/util/AbstractSet", name := "<init>", desc := "()V" } : Jvm.MethodName) prog_51_method_1_code (1 : Nat) (Option.none : Option Jvm.ClassFile.FieldType)) ∈ lw_all := lw_g (lw_at lw_m2 208 rfl) rfl
theorem q611 : (Jvm.Cond.methodLink "java/util/AbstractSet" (1 : Nat) ({ cls := "java/util/AbstractCollection", name := "<init>", desc := "()V" } : Jvm.MethodName)) ∈ lw_all := lw_g (lw_at lw_m2 209 rfl) rfl
theorem q185 : (Jvm.Cond.initialized "java/util/HashSet") ∈ lw_all := lw_g (lw_at lw_m1 23 rfl) rfl
theorem q606 : (Jvm.Cond.instanceMethod ({ cls := "java/util/HashSet", name := "<init>", desc := "(IFZ)V" } : Jvm.MethodName)) ∈ lw_all := lw_g (lw_at lw_m2 204 rfl) rfl
theorem q607 : (Jvm.Cond.code ({ cls := "java/util/HashSet", name := "<init>", desc := "(IFZ)V" } : Jvm.MethodName) prog_67_method_5_code (4 : Nat) (Option.none : Option Jvm.ClassFile.FieldType)) ∈ lw_all := lw_g (lw_at lw_m2 205 rfl) rfl
theorem q608 : (Jvm.Cond.methodLink "java/util/HashSet" (1 : Nat) ({ cls := "java/util/AbstractSet", name := "<init>", desc := "()V" } : Jvm.MethodName)) ∈ lw_all := lw_g (lw_at lw_m2 206 rfl) rfl
theorem q612 : (Jvm.Cond.classLink "java/util/HashSet" (42 : Nat) "java/util/LinkedHashMap") ∈ lw_all := lw_g (lw_at lw_m2 210 rfl) rfl
theorem q614 : (Jvm.Cond.methodLink "java/util/HashSet" (44 : Nat) ({ cls := "java/util/LinkedHashMap", name := "<init>", desc := "(IF)V" } : Jvm.MethodName)) ∈ lw_all := lw_g (lw_at lw_m2 212 rfl) rfl
theorem q1180 : (Jvm.Cond.fieldLink "java/util/HashSet" (10 : Nat) "java/util/HashSet" "map" "Ljava/util/HashMap;") ∈ lw_all := lw_g (lw_at lw_m5 58 rfl) rfl
theorem q1182 : (Jvm.Cond.soleField "java/util/HashSet" "map") ∈ lw_all := lw_g (lw_at lw_m5 60 rfl) rfl
theorem q1594 : (Jvm.Cond.declares ({ cls := "java/util/HashSet", name := "isEmpty", desc := "()Z" } : Jvm.MethodName)) ∈ lw_tbl := lw_at lw_m6 232 rfl
theorem q1596 : (Jvm.Cond.instanceMethod ({ cls := "java/util/HashSet", name := "isEmpty", desc := "()Z" } : Jvm.MethodName)) ∈ lw_all := lw_g (lw_at lw_m6 234 rfl) rfl
theorem q1597 : (Jvm.Cond.code ({ cls := "java/util/HashSet", name := "isEmpty", desc := "()Z" } : Jvm.MethodName) prog_67_method_8_code (1 : Nat) (Option.some Jvm.ClassFile.FieldType.boolean)) ∈ lw_all := lw_g (lw_at lw_m6 235 rfl) rfl
theorem q1598 : (Jvm.Cond.methodLink "java/util/HashSet" (56 : Nat) ({ cls := "java/util/HashMap", name := "isEmpty", desc := "()Z" } : Jvm.MethodName)) ∈ lw_all := lw_g (lw_at lw_m6 236 rfl) rfl
theorem q1619 : (Jvm.Cond.declares ({ cls := "java/util/HashSet", name := "contains", desc := "(Ljava/lang/Object;)Z" } : Jvm.MethodName)) ∈ lw_tbl := lw_at lw_m7 17 rfl
theorem q1621 : (Jvm.Cond.instanceMethod ({ cls := "java/util/HashSet", name := "contains", desc := "(Ljava/lang/Object;)Z" } : Jvm.MethodName)) ∈ lw_all := lw_g (lw_at lw_m7 19 rfl) rfl
theorem q1622 : (Jvm.Cond.code ({ cls := "java/util/HashSet", name := "contains", desc := "(Ljava/lang/Object;)Z" } : Jvm.MethodName) prog_67_method_9_code (2 : Nat) (Option.some Jvm.ClassFile.FieldType.boolean)) ∈ lw_all := lw_g (lw_at lw_m7 20 rfl) rfl
theorem q1623 : (Jvm.Cond.methodLink "java/util/HashSet" (60 : Nat) ({ cls := "java/util/HashMap", name := "containsKey", desc := "(Ljava/lang/Object;)Z" } : Jvm.MethodName)) ∈ lw_all := lw_g (lw_at lw_m7 21 rfl) rfl
theorem q2530 : (Jvm.Cond.instanceMethod ({ cls := "java/util/HashSet", name := "iterator", desc := "()Ljava/util/Iterator;" } : Jvm.MethodName)) ∈ lw_all := lw_g (lw_at lw_m10 208 rfl) rfl
theorem q2531 : (Jvm.Cond.publicMethod ({ cls := "java/util/HashSet", name := "iterator", desc := "()Ljava/util/Iterator;" } : Jvm.MethodName)) ∈ lw_tbl := lw_at lw_m10 209 rfl
theorem q2532 : (Jvm.Cond.code ({ cls := "java/util/HashSet", name := "iterator", desc := "()Ljava/util/Iterator;" } : Jvm.MethodName) prog_67_method_6_code (1 : Nat) (Option.some (Jvm.ClassFile.FieldType.object "java/util/Iterator"))) ∈ lw_all := lw_g (lw_at lw_m10 210 rfl) rfl
theorem q2533 : (Jvm.Cond.methodLink "java/util/HashSet" (45 : Nat) ({ cls := "java/util/HashMap", name := "keySet", desc := "()Ljava/util/Set;" } : Jvm.MethodName)) ∈ lw_all := lw_g (lw_at lw_m10 211 rfl) rfl
theorem q2569 : (Jvm.Cond.interfaceEntry "java/util/HashSet" (49 : Nat)) ∈ lw_tbl := lw_at lw_m11 7 rfl
theorem q2570 : (Jvm.Cond.methodLink "java/util/HashSet" (49 : Nat) ({ cls := "java/util/Set", name := "iterator", desc := "()Ljava/util/Iterator;" } : Jvm.MethodName)) ∈ lw_all := lw_g (lw_at lw_m11 8 rfl) rfl
theorem q2600 : (Jvm.Cond.instanceMethod ({ cls := "java/util/HashSet", name := "add", desc := "(Ljava/lang/Object;)Z" } : Jvm.MethodName)) ∈ lw_all := lw_g (lw_at lw_m11 38 rfl) rfl
theorem q2601 : (Jvm.Cond.code ({ cls := "java/util/HashSet", name := "add", desc := "(Ljava/lang/Object;)Z" } : Jvm.MethodName) prog_67_method_10_code (2 : Nat) (Option.some Jvm.ClassFile.FieldType.boolean)) ∈ lw_all := lw_g (lw_at lw_m11 39 rfl) rfl
theorem q2602 : (Jvm.Cond.fieldLink "java/util/HashSet" (64 : Nat) "java/util/HashSet" "PRESENT" "Ljava/lang/Object;") ∈ lw_all := lw_g (lw_at lw_m11 40 rfl) rfl
theorem q2603 : (Jvm.Cond.laysStatic "java/util/HashSet" "PRESENT" "Ljava/lang/Object;") ∈ lw_tbl := lw_at lw_m11 41 rfl
theorem q2604 : (Jvm.Cond.methodLink "java/util/HashSet" (68 : Nat) ({ cls := "java/util/HashMap", name := "put", desc := "(Ljava/lang/Object;Ljava/lang/Object;)Ljava/lang/Object;" } : Jvm.MethodName)) ∈ lw_all := lw_g (lw_at lw_m11 42 rfl) rfl
theorem q3346 : (Jvm.Cond.declares ({ cls := "java/util/HashSet", name := "clear", desc := "()V" } : Jvm.MethodName)) ∈ lw_tbl := lw_at lw_m14 64 rfl
theorem q3348 : (Jvm.Cond.instanceMethod ({ cls := "java/util/HashSet", name := "clear", desc := "()V" } : Jvm.MethodName)) ∈ lw_all := lw_g (lw_at lw_m14 66 rfl) rfl
theorem q3349 : (Jvm.Cond.code ({ cls := "java/util/HashSet", name := "clear", desc := "()V" } : Jvm.MethodName) prog_67_method_12_code (1 : Nat) (Option.none : Option Jvm.ClassFile.FieldType)) ∈ lw_all := lw_g (lw_at lw_m14 67 rfl) rfl
theorem q3350 : (Jvm.Cond.methodLink "java/util/HashSet" (76 : Nat) ({ cls := "java/util/HashMap", name := "clear", desc := "()V" } : Jvm.MethodName)) ∈ lw_all := lw_g (lw_at lw_m14 68 rfl) rfl
theorem q3395 : (Jvm.Cond.declares ({ cls := "java/util/HashSet", name := "add", desc := "(Ljava/lang/Object;)Z" } : Jvm.MethodName)) ∈ lw_tbl := lw_at lw_m14 113 rfl
theorem q167 : (Jvm.Cond.initialized "java/util/ArrayList") ∈ lw_all := lw_g (lw_at lw_m1 5 rfl) rfl
theorem q249 : (Jvm.Cond.instantiable "java/util/ArrayList" (3 : Nat)) ∈ lw_all := lw_g (lw_at lw_m1 87 rfl) rfl
theorem q251 : (Jvm.Cond.instanceMethod ({ cls := "java/util/ArrayList", name := "<init>", desc := "(I)V" } : Jvm.MethodName)) ∈ lw_all := lw_g (lw_at lw_m1 89 rfl) rfl
theorem q252 : (Jvm.Cond.code ({ cls := "java/util/ArrayList", name := "<init>", desc := "(I)V" } : Jvm.MethodName) prog_54_method_1_code (2 : Nat) (Option.none : Option Jvm.ClassFile.FieldType)) ∈ lw_all := lw_g (lw_at lw_m1 90 rfl) rfl
theorem q253 : (Jvm.Cond.methodLink "java/util/ArrayList" (1 : Nat) ({ cls := "java/util/AbstractList", name := "<init>", desc := "()V" } : Jvm.MethodName)) ∈ lw_all := lw_g (lw_at lw_m1 91 rfl) rfl
theorem q260 : (Jvm.Cond.classLink "java/util/ArrayList" (7 : Nat) "java/lang/Object") ∈ lw_all := lw_g (lw_at lw_m1 98 rfl) rfl
theorem q262 : (Jvm.Cond.fieldLink "java/util/ArrayList" (15 : Nat) "java/util/ArrayList" "EMPTY_ELEMENTDATA" "[Ljava/lang/Object;") ∈ lw_all := lw_g (lw_at lw_m1 100 rfl) rfl
theorem q263 : (Jvm.Cond.laysStatic "java/util/ArrayList" "EMPTY_ELEMENTDATA" "[Ljava/lang/Object;") ∈ lw_tbl := lw_at lw_m1 101 rfl
theorem q264 : (Jvm.Cond.classLink "java/util/ArrayList" (18 : Nat) "java/lang/IllegalArgumentException") ∈ lw_all := lw_g (lw_at lw_m1 102 rfl) rfl
theorem q309 : (Jvm.Cond.classLink "java/util/ArrayList" (20 : Nat) "java/lang/StringBuilder") ∈ lw_all := lw_g (lw_at lw_m1 147 rfl) rfl
theorem q311 : (Jvm.Cond.methodLink "java/util/ArrayList" (22 : Nat) ({ cls := "java/lang/StringBuilder", name := "<init>", desc := "()V" } : Jvm.MethodName)) ∈ lw_all := lw_g (lw_at lw_m1 149 rfl) rfl
theorem q343 : (Jvm.Cond.stringRef "java/util/ArrayList" (23 : Nat) "Illegal Capacity: ") ∈ lw_tbl := lw_at lw_m1 181 rfl
theorem q344 : (Jvm.Cond.methodLink "java/util/ArrayList" (25 : Nat) ({ cls := "java/lang/StringBuilder", name := "append", desc := "(Ljava/lang/String;)Ljava/lang/StringBuilder;" } : Jvm.MethodName)) ∈ lw_all := lw_g (lw_at lw_m1 182 rfl) rfl
theorem q464 : (Jvm.Cond.methodLink "java/util/ArrayList" (29 : Nat) ({ cls := "java/lang/StringBuilder", name := "append", desc := "(I)Ljava/lang/StringBuilder;" } : Jvm.MethodName)) ∈ lw_all := lw_g (lw_at lw_m2 62 rfl) rfl
theorem q489 : (Jvm.Cond.methodLink "java/util/ArrayList" (32 : Nat) ({ cls := "java/lang/StringBuilder", name := "toString", desc := "()Ljava/lang/String;" } : Jvm.MethodName)) ∈ lw_all := lw_g (lw_at lw_m2 87 rfl) rfl
theorem q583 : (Jvm.Cond.methodLink "java/util/ArrayList" (36 : Nat) ({ cls := "java/lang/IllegalArgumentException", name := "<init>", desc := "(Ljava/lang/String;)V" } : Jvm.MethodName)) ∈ lw_all := lw_g (lw_at lw_m2 181 rfl) rfl
theorem q584 : (Jvm.Cond.fieldLink "java/util/ArrayList" (9 : Nat) "java/util/ArrayList" "elementData" "[Ljava/lang/Object;") ∈ lw_all := lw_g (lw_at lw_m2 182 rfl) rfl
theorem q587 : (Jvm.Cond.fieldLink "java/util/ArrayList" (48 : Nat) "java/util/ArrayList" "size" "I") ∈ lw_all := lw_g (lw_at lw_m2 185 rfl) rfl
theorem q590 : (Jvm.Cond.sameField "java/util/ArrayList" "java/util/AbstractList" "modCount" "I") ∈ lw_all := lw_g (lw_at lw_m2 188 rfl) rfl
theorem q591 : (Jvm.Cond.fieldLink "java/util/ArrayList" (63 : Nat) "java/util/ArrayList" "modCount" "I") ∈ lw_all := lw_g (lw_at lw_m2 189 rfl) rfl
theorem q592 : (Jvm.Cond.lays "java/util/ArrayList" "java/util/ArrayList" "elementData" "[Ljava/lang/Object;") ∈ lw_all := lw_g (lw_at lw_m2 190 rfl) rfl
theorem q593 : (Jvm.Cond.soleField "java/util/ArrayList" "elementData") ∈ lw_all := lw_g (lw_at lw_m2 191 rfl) rfl
theorem q594 : (Jvm.Cond.lays "java/util/ArrayList" "java/util/ArrayList" "size" "I") ∈ lw_all := lw_g (lw_at lw_m2 192 rfl) rfl
theorem q595 : (Jvm.Cond.soleField "java/util/ArrayList" "size") ∈ lw_all := lw_g (lw_at lw_m2 193 rfl) rfl
theorem q596 : (Jvm.Cond.lays "java/util/ArrayList" "java/util/AbstractList" "modCount" "I") ∈ lw_all := lw_g (lw_at lw_m2 194 rfl) rfl
theorem q598 : (Jvm.Cond.superclass "java/util/ArrayList" "java/util/AbstractList") ∈ lw_all := lw_g (lw_at lw_m2 196 rfl) rfl
theorem q995 : (Jvm.Cond.selects "java/util/ArrayList" ({ cls := "java/lang/Object", name := "getClass", desc := "()Ljava/lang/Class;" } : Jvm.MethodName) ({ cls := "java/lang/Object", name := "getClass", desc := "()Ljava/lang/Class;" } : Jvm.MethodName)) ∈ lw_all := lw_g (lw_at lw_m4 113 rfl) rfl
theorem q1315 : (Jvm.Cond.castable "java/util/ArrayList" "java/util/List") ∈ lw_tbl := lw_at lw_m5 193 rfl
theorem q1316 : (Jvm.Cond.selects "java/util/ArrayList" ({ cls := "java/util/List", name := "add", desc := "(Ljava/lang/Object;)Z" } : Jvm.MethodName) ({ cls := "java/util/ArrayList", name := "add", desc := "(Ljava/lang/Object;)Z" } : Jvm.MethodName)) ∈ lw_all := lw_g (lw_at lw_m5 194 rfl) rfl
theorem q1317 : (Jvm.Cond.unhidden "java/util/ArrayList" "add" "(Ljava/lang/Object;)Z") ∈ lw_tbl := lw_at lw_m5 195 rfl
theorem q1318 : (Jvm.Cond.instanceMethod ({ cls := "java/util/ArrayList", name := "add", desc := "(Ljava/lang/Object;)Z" } : Jvm.MethodName)) ∈ lw_all := lw_g (lw_at lw_m5 196 rfl) rfl
theorem q1319 : (Jvm.Cond.publicMethod ({ cls := "java/util/ArrayList", name := "add", desc := "(Ljava/lang/Object;)Z" } : Jvm.MethodName)) ∈ lw_tbl := lw_at lw_m5 197 rfl
theorem q1320 : (Jvm.Cond.code ({ cls := "java/util/ArrayList", name := "add", desc := "(Ljava/lang/Object;)Z" } : Jvm.MethodName) prog_54_method_25_code (2 : Nat) (Option.some Jvm.ClassFile.FieldType.boolean)) ∈ lw_all := lw_g (lw_at lw_m5 198 rfl) rfl
theorem q1321 : (Jvm.Cond.methodLink "java/util/ArrayList" (131 : Nat) ({ cls := "java/util/ArrayList", name := "add", desc := "(Ljava/lang/Object;[Ljava/lang/Object;I)V" } : Jvm.MethodName)) ∈ lw_all := lw_g (lw_at lw_m5 199 rfl) rfl
theorem q1322 : (Jvm.Cond.privateMethod ({ cls := "java/util/ArrayList", name := "add", desc := "(Ljava/lang/Object;[Ljava/lang/Object;I)V" } : Jvm.MethodName)) ∈ lw_tbl := lw_at lw_m5 200 rfl
theorem q1323 : (Jvm.Cond.instanceMethod ({ cls := "java/util/ArrayList", name := "add", desc := "(Ljava/lang/Object;[Ljava/lang/Object;I)V" } : Jvm.MethodName)) ∈ lw_all := lw_g (lw_at lw_m5 201 rfl) rfl
theorem q1324 : (Jvm.Cond.code ({ cls := "java/util/ArrayList", name := "add", desc := "(Ljava/lang/Object;[Ljava/lang/Object;I)V" } : Jvm.MethodName) prog_54_method_24_code (4 : Nat) (Option.none : Option Jvm.ClassFile.FieldType)) ∈ lw_all := lw_g (lw_at lw_m5 202 rfl) rfl
theorem q1325 : (Jvm.Cond.methodLink "java/util/ArrayList" (129 : Nat) ({ cls := "java/util/ArrayList", name := "grow", desc := "()[Ljava/lang/Object;" } : Jvm.MethodName)) ∈ lw_all := lw_g (lw_at lw_m5 203 rfl) rfl
theorem q1326 : (Jvm.Cond.privateMethod ({ cls := "java/util/ArrayList", name := "grow", desc := "()[Ljava/lang/Object;" } : Jvm.MethodName)) ∈ lw_tbl := lw_at lw_m5 204 rfl
theorem q1327 : (Jvm.Cond.instanceMethod ({ cls := "java/util/ArrayList", name := "grow", desc := "()[Ljava/lang/Object;" } : Jvm.MethodName)) ∈ lw_all := lw_g (lw_at lw_m5 205 rfl) rfl
theorem q1328 : (Jvm.Cond.code ({ cls := "java/util/ArrayList", name := "grow", desc := "()[Ljava/lang/Object;" } : Jvm.MethodName) prog_54_method_7_code (1 : Nat) (Option.some (Jvm.ClassFile.FieldType.array (Jvm.ClassFile.FieldType.object "java/lang/Object")))) ∈ lw_all := lw_g (lw_at lw_m5 206 rfl) rfl
theorem q1329 : (Jvm.Cond.methodLink "java/util/ArrayList" (69 : Nat) ({ cls := "java/util/ArrayList", name := "grow", desc := "(I)[Ljava/lang/Object;" } : Jvm.MethodName)) ∈ lw_all := lw_g (lw_at lw_m5 207 rfl) rfl
theorem q1330 : (Jvm.Cond.privateMethod ({ cls := "java/util/ArrayList", name := "grow", desc := "(I)[Ljava/lang/Object;" } : Jvm.MethodName)) ∈ lw_tbl := lw_at lw_m5 208 rfl
theorem q1331 : (Jvm.Cond.instanceMethod ({ cls := "java/util/ArrayList", name := "grow", desc := "(I)[Ljava/lang/Object;" } : Jvm.MethodName)) ∈ lw_all := lw_g (lw_at lw_m5 209 rfl) rfl
theorem q1332 : (Jvm.Cond.code ({ cls := "java/util/ArrayList", name := "grow", desc := "(I)[Ljava/lang/Object;" } : Jvm.MethodName) prog_54_method_6_code (4 : Nat) (Option.some (Jvm.ClassFile.FieldType.array (Jvm.ClassFile.FieldType.object "java/lang/Object")))) ∈ lw_all := lw_g (lw_at lw_m5 210 rfl) rfl
theorem q1333 : (Jvm.Cond.fieldLink "java/util/ArrayList" (39 : Nat) "java/util/ArrayList" "DEFAULTCAPACITY_EMPTY_ELEMENTDATA" "[Ljava/lang/Object;") ∈ lw_all := lw_g (lw_at lw_m5 211 rfl) rfl
theorem q1334 : (Jvm.Cond.laysStatic "java/util/ArrayList" "DEFAULTCAPACITY_EMPTY_ELEMENTDATA" "[Ljava/lang/Object;") ∈ lw_tbl := lw_at lw_m5 212 rfl
theorem q1335 : (Jvm.Cond.methodLink "java/util/ArrayList" (73 : Nat) ({ cls := "jdk/internal/util/ArraysSupport", name := "newLength", desc := "(III)I" } : Jvm.MethodName)) ∈ lw_all := lw_g (lw_at lw_m5 213 rfl) rfl
theorem q1336 : (Jvm.Cond.methodLink "java/util/ArrayList" (66 : Nat) ({ cls := "java/util/Arrays", name := "copyOf", desc := "([Ljava/lang/Object;I)[Ljava/lang/Object;" } : Jvm.MethodName)) ∈ lw_all := lw_g (lw_at lw_m5 214 rfl) rfl
theorem q1345 : (Jvm.Cond.methodLink "java/util/ArrayList" (79 : Nat) ({ cls := "java/lang/Math", name := "max", desc := "(II)I" } : Jvm.MethodName)) ∈ lw_all := lw_g (lw_at lw_m5 223 rfl) rfl
theorem q1423 : (Jvm.Cond.selects "java/util/ArrayList" ({ cls := "java/util/List", name := "get", desc := "(I)Ljava/lang/Object;" } : Jvm.MethodName) ({ cls := "java/util/ArrayList", name := "get", desc := "(I)Ljava/lang/Object;" } : Jvm.MethodName)) ∈ lw_all := lw_g (lw_at lw_m6 61 rfl) rfl
theorem q1424 : (Jvm.Cond.unhidden "java/util/ArrayList" "get" "(I)Ljava/lang/Object;") ∈ lw_tbl := lw_at lw_m6 62 rfl
theorem q1425 : (Jvm.Cond.instanceMethod ({ cls := "java/util/ArrayList", name := "get", desc := "(I)Ljava/lang/Object;" } : Jvm.MethodName)) ∈ lw_all := lw_g (lw_at lw_m6 63 rfl) rfl
theorem q1426 : (Jvm.Cond.publicMethod ({ cls := "java/util/ArrayList", name := "get", desc := "(I)Ljava/lang/Object;" } : Jvm.MethodName)) ∈ lw_tbl := lw_at lw_m6 64 rfl
theorem q1427 : (Jvm.Cond.code ({ cls := "java/util/ArrayList", name := "get", desc := "(I)Ljava/lang/Object;" } : Jvm.MethodName) prog_54_method_20_code (2 : Nat) (Option.some (Jvm.ClassFile.FieldType.object "java/lang/Object"))) ∈ lw_all := lw_g (lw_at lw_m6 65 rfl) rfl
theorem q1428 : (Jvm.Cond.methodLink "java/util/ArrayList" (118 : Nat) ({ cls := "java/util/Objects", name := "checkIndex", desc := "(II)I" } : Jvm.MethodName)) ∈ lw_all := lw_g (lw_at lw_m6 66 rfl) rfl
theorem q1432 : (Jvm.Cond.methodLink "java/util/ArrayList" (123 : Nat) ({ cls := "java/util/ArrayList", name := "elementData", desc := "(I)Ljava/lang/Object;" } : Jvm.MethodName)) ∈ lw_all := lw_g (lw_at lw_m6 70 rfl) rfl
theorem q1433 : (Jvm.Cond.instanceMethod ({ cls := "java/util/ArrayList", name := "elementData", desc := "(I)Ljava/lang/Object;" } : Jvm.MethodName)) ∈ lw_all := lw_g (lw_at lw_m6 71 rfl) rfl
theorem q1434 : (Jvm.Cond.selects "java/util/ArrayList" ({ cls := "java/util/ArrayList", name := "elementData", desc := "(I)Ljava/lang/Object;" } : Jvm.MethodName) ({ cls := "java/util/ArrayList", name := "elementData", desc := "(I)Ljava/lang/Object;" } : Jvm.MethodName)) ∈ lw_all := lw_g (lw_at lw_m6 72 rfl) rfl
theorem q1435 : (Jvm.Cond.code ({ cls := "java/util/ArrayList", name := "elementData", desc := "(I)Ljava/lang/Object;" } : Jvm.MethodName) prog_54_method_18_code (2 : Nat) (Option.some (Jvm.ClassFile.FieldType.object "java/lang/Object"))) ∈ lw_all := lw_g (lw_at lw_m6 73 rfl) rfl
theorem q1503 : (Jvm.Cond.selects "java/util/ArrayList" ({ cls := "java/util/List", name := "size", desc := "()I" } : Jvm.MethodName) ({ cls := "java/util/ArrayList", name := "size", desc := "()I" } : Jvm.MethodName)) ∈ lw_all := lw_g (lw_at lw_m6 141 rfl) rfl
theorem q1504 : (Jvm.Cond.unhidden "java/util/ArrayList" "size" "()I") ∈ lw_tbl := lw_at lw_m6 142 rfl
theorem q1505 : (Jvm.Cond.instanceMethod ({ cls := "java/util/ArrayList", name := "size", desc := "()I" } : Jvm.MethodName)) ∈ lw_all := lw_g (lw_at lw_m6 143 rfl) rfl
theorem q1506 : (Jvm.Cond.publicMethod ({ cls := "java/util/ArrayList", name := "size", desc := "()I" } : Jvm.MethodName)) ∈ lw_tbl := lw_at lw_m6 144 rfl
theorem q1507 : (Jvm.Cond.code ({ cls := "java/util/ArrayList", name := "size", desc := "()I" } : Jvm.MethodName) prog_54_method_8_code (1 : Nat) (Option.some Jvm.ClassFile.FieldType.int)) ∈ lw_all := lw_g (lw_at lw_m6 145 rfl) rfl
theorem q2044 : (Jvm.Cond.selects "java/util/ArrayList" ({ cls := "java/util/List", name := "iterator", desc := "()Ljava/util/Iterator;" } : Jvm.MethodName) ({ cls := "java/util/ArrayList", name := "iterator", desc := "()Ljava/util/Iterator;" } : Jvm.MethodName)) ∈ lw_all := lw_g (lw_at lw_m8 202 rfl) rfl
theorem q2045 : (Jvm.Cond.unhidden "java/util/ArrayList" "iterator" "()Ljava/util/Iterator;") ∈ lw_tbl := lw_at lw_m8 203 rfl
theorem q2046 : (Jvm.Cond.instanceMethod ({ cls := "java/util/ArrayList", name := "iterator", desc := "()Ljava/util/Iterator;" } : Jvm.MethodName)) ∈ lw_all := lw_g (lw_at lw_m8 204 rfl) rfl
theorem q2047 : (Jvm.Cond.publicMethod ({ cls := "java/util/ArrayList", name := "iterator", desc := "()Ljava/util/Iterator;" } : Jvm.MethodName)) ∈ lw_tbl := lw_at lw_m8 205 rfl
theorem q2048 : (Jvm.Cond.code ({ cls := "java/util/ArrayList", name := "iterator", desc := "()Ljava/util/Iterator;" } : Jvm.MethodName) prog_54_method_55_code (1 : Nat) (Option.some (Jvm.ClassFile.FieldType.object "java/util/Iterator"))) ∈ lw_all := lw_g (lw_at lw_m8 206 rfl) rfl
theorem q2049 : (Jvm.Cond.classLink "java/util/ArrayList" (267 : Nat) "java/util/ArrayList$Itr") ∈ lw_all := lw_g (lw_at lw_m8 207 rfl) rfl
theorem q2051 : (Jvm.Cond.methodLink "java/util/ArrayList" (269 : Nat) ({ cls := "java/util/ArrayList$Itr", name := "<init>", desc := "(Ljava/util/ArrayList;)V" } : Jvm.MethodName)) ∈ lw_all := lw_g (lw_at lw_m8 209 rfl) rfl
theorem q2427 : (Jvm.Cond.castable "java/util/ArrayList" "java/util/Collection") ∈ lw_tbl := lw_at lw_m10 105 rfl
theorem q2428 : (Jvm.Cond.selects "java/util/ArrayList" ({ cls := "java/util/Collection", name := "iterator", desc := "()Ljava/util/Iterator;" } : Jvm.MethodName) ({ cls := "java/util/ArrayList", name := "iterator", desc := "()Ljava/util/Iterator;" } : Jvm.MethodName)) ∈ lw_all := lw_g (lw_at lw_m10 106 rfl) rfl
theorem q2594 : (Jvm.Cond.selects "java/util/ArrayList" ({ cls := "java/util/AbstractCollection", name := "add", desc := "(Ljava/lang/Object;)Z" } : Jvm.MethodName) ({ cls := "java/util/ArrayList", name := "add", desc := "(Ljava/lang/Object;)Z" } : Jvm.MethodName)) ∈ lw_all := lw_g (lw_at lw_m11 32 rfl) rfl
theorem q3256 : (Jvm.Cond.selects "java/util/ArrayList" ({ cls := "java/util/List", name := "isEmpty", desc := "()Z" } : Jvm.MethodName) ({ cls := "java/util/ArrayList", name := "isEmpty", desc := "()Z" } : Jvm.MethodName)) ∈ lw_all := lw_g (lw_at lw_m13 214 rfl) rfl
theorem q3257 : (Jvm.Cond.unhidden "java/util/ArrayList" "isEmpty" "()Z") ∈ lw_tbl := lw_at lw_m13 215 rfl
theorem q3258 : (Jvm.Cond.instanceMethod ({ cls := "java/util/ArrayList", name := "isEmpty", desc := "()Z" } : Jvm.MethodName)) ∈ lw_all := lw_g (lw_at lw_m13 216 rfl) rfl
theorem q3259 : (Jvm.Cond.publicMethod ({ cls := "java/util/ArrayList", name := "isEmpty", desc := "()Z" } : Jvm.MethodName)) ∈ lw_tbl := lw_at lw_m13 217 rfl
theorem q3260 : (Jvm.Cond.code ({ cls := "java/util/ArrayList", name := "isEmpty", desc := "()Z" } : Jvm.MethodName) prog_54_method_9_code (1 : Nat) (Option.some Jvm.ClassFile.FieldType.boolean)) ∈ lw_all := lw_g (lw_at lw_m13 218 rfl) rfl
theorem q4612 : (Jvm.Cond.castable "java/util/ArrayList" "java/lang/Object") ∈ lw_tbl := lw_at lw_m19 130 rfl
theorem q186 : (Jvm.Cond.initialized "java/util/LinkedHashSet") ∈ lw_all := lw_g (lw_at lw_m1 24 rfl) rfl
theorem q600 : (Jvm.Cond.instantiable "java/util/LinkedHashSet" (1 : Nat)) ∈ lw_all := lw_g (lw_at lw_m2 198 rfl) rfl
theorem q602 : (Jvm.Cond.instanceMethod ({ cls := "java/util/LinkedHashSet", name := "<init>", desc := "()V" } : Jvm.MethodName)) ∈ lw_all := lw_g (lw_at lw_m2 200 rfl) rfl
theorem q603 : (Jvm.Cond.code ({ cls := "java/util/LinkedHashSet", name := "<init>", desc := "()V" } : Jvm.MethodName) prog_76_method_3_code (1 : Nat) (Option.none : Option Jvm.ClassFile.FieldType)) ∈ lw_all := lw_g (lw_at lw_m2 201 rfl) rfl
theorem q604 : (Jvm.Cond.constantFloat "java/util/LinkedHashSet" (7 : Nat) (1061158912 : UInt32)) ∈ lw_all := lw_g (lw_at lw_m2 202 rfl) rfl
theorem q605 : (Jvm.Cond.methodLink "java/util/LinkedHashSet" (1 : Nat) ({ cls := "java/util/HashSet", name := "<init>", desc := "(IFZ)V" } : Jvm.MethodName)) ∈ lw_all := lw_g (lw_at lw_m2 203 rfl) rfl
theorem q1010 : (Jvm.Cond.selects "java/util/LinkedHashSet" ({ cls := "java/lang/Object", name := "getClass", desc := "()Ljava/lang/Class;" } : Jvm.MethodName) ({ cls := "java/lang/Object", name := "getClass", desc := "()Ljava/lang/Class;" } : Jvm.MethodName)) ∈ lw_all := lw_g (lw_at lw_m4 128 rfl) rfl
theorem q1181 : (Jvm.Cond.lays "java/util/LinkedHashSet" "java/util/HashSet" "map" "Ljava/util/HashMap;") ∈ lw_all := lw_g (lw_at lw_m5 59 rfl) rfl
theorem q1183 : (Jvm.Cond.superclass "java/util/LinkedHashSet" "java/util/HashSet") ∈ lw_all := lw_g (lw_at lw_m5 61 rfl) rfl
theorem q1593 : (Jvm.Cond.sameMethod "java/util/LinkedHashSet" "java/util/HashSet" "isEmpty" "()Z") ∈ lw_all := lw_g (lw_at lw_m6 231 rfl) rfl
theorem q1595 : (Jvm.Cond.selects "java/util/LinkedHashSet" ({ cls := "java/util/LinkedHashSet", name := "isEmpty", desc := "()Z" } : Jvm.MethodName) ({ cls := "java/util/HashSet", name := "isEmpty", desc := "()Z" } : Jvm.MethodName)) ∈ lw_all := lw_g (lw_at lw_m6 233 rfl) rfl
theorem q1618 : (Jvm.Cond.sameMethod "java/util/LinkedHashSet" "java/util/HashSet" "contains" "(Ljava/lang/Object;)Z") ∈ lw_all := lw_g (lw_at lw_m7 16 rfl) rfl
theorem q1620 : (Jvm.Cond.selects "java/util/LinkedHashSet" ({ cls := "java/util/LinkedHashSet", name := "contains", desc := "(Ljava/lang/Object;)Z" } : Jvm.MethodName) ({ cls := "java/util/HashSet", name := "contains", desc := "(Ljava/lang/Object;)Z" } : Jvm.MethodName)) ∈ lw_all := lw_g (lw_at lw_m7 18 rfl) rfl
theorem q2386 : (Jvm.Cond.sameMethod "java/util/LinkedHashSet" "java/util/AbstractCollection" "addAll" "(Ljava/util/Collection;)Z") ∈ lw_all := lw_g (lw_at lw_m10 64 rfl) rfl
theorem q2388 : (Jvm.Cond.selects "java/util/LinkedHashSet" ({ cls := "java/util/LinkedHashSet", name := "addAll", desc := "(Ljava/util/Collection;)Z" } : Jvm.MethodName) ({ cls := "java/util/AbstractCollection", name := "addAll", desc := "(Ljava/util/Collection;)Z" } : Jvm.MethodName)) ∈ lw_all := lw_g (lw_at lw_m10 66 rfl) rfl
theorem q2527 : (Jvm.Cond.castable "java/util/LinkedHashSet" "java/util/Collection") ∈ lw_tbl := lw_at lw_m10 205 rfl
theorem q2528 : (Jvm.Cond.selects "java/util/LinkedHashSet" ({ cls := "java/util/Collection", name := "iterator", desc := "()Ljava/util/Iterator;" } : Jvm.MethodName) ({ cls := "java/util/HashSet", name := "iterator", desc := "()Ljava/util/Iterator;" } : Jvm.MethodName)) ∈ lw_all := lw_g (lw_at lw_m10 206 rfl) rfl
theorem q2529 : (Jvm.Cond.unhidden "java/util/LinkedHashSet" "iterator" "()Ljava/util/Iterator;") ∈ lw_tbl := lw_at lw_m10 207 rfl
theorem q2581 : (Jvm.Cond.castable "java/util/LinkedHashSet" "java/util/Set") ∈ lw_tbl := lw_at lw_m11 19 rfl
theorem q2582 : (Jvm.Cond.selects "java/util/LinkedHashSet" ({ cls := "java/util/Set", name := "iterator", desc := "()Ljava/util/Iterator;" } : Jvm.MethodName) ({ cls := "java/util/HashSet", name := "iterator", desc := "()Ljava/util/Iterator;" } : Jvm.MethodName)) ∈ lw_all := lw_g (lw_at lw_m11 20 rfl) rfl
theorem q2599 : (Jvm.Cond.selects "java/util/LinkedHashSet" ({ cls := "java/util/AbstractCollection", name := "add", desc := "(Ljava/lang/Object;)Z" } : Jvm.MethodName) ({ cls := "java/util/HashSet", name := "add", desc := "(Ljava/lang/Object;)Z" } : Jvm.MethodName)) ∈ lw_all := lw_g (lw_at lw_m11 37 rfl) rfl
theorem q3345 : (Jvm.Cond.sameMethod "java/util/LinkedHashSet" "java/util/HashSet" "clear" "()V") ∈ lw_all := lw_g (lw_at lw_m14 63 rfl) rfl
theorem q3347 : (Jvm.Cond.selects "java/util/LinkedHashSet" ({ cls := "java/util/LinkedHashSet", name := "clear", desc := "()V" } : Jvm.MethodName) ({ cls := "java/util/HashSet", name := "clear", desc := "()V" } : Jvm.MethodName)) ∈ lw_all := lw_g (lw_at lw_m14 65 rfl) rfl
theorem q3394 : (Jvm.Cond.sameMethod "java/util/LinkedHashSet" "java/util/HashSet" "add" "(Ljava/lang/Object;)Z") ∈ lw_all := lw_g (lw_at lw_m14 112 rfl) rfl
theorem q3396 : (Jvm.Cond.selects "java/util/LinkedHashSet" ({ cls := "java/util/LinkedHashSet", name := "add", desc := "(Ljava/lang/Object;)Z" } : Jvm.MethodName) ({ cls := "java/util/HashSet", name := "add", desc := "(Ljava/lang/Object;)Z" } : Jvm.MethodName)) ∈ lw_all := lw_g (lw_at lw_m14 114 rfl) rfl
theorem q4598 : (Jvm.Cond.castable "java/util/LinkedHashSet" "java/util/SequencedSet") ∈ lw_tbl := lw_at lw_m19 116 rfl
theorem q4616 : (Jvm.Cond.castable "java/util/LinkedHashSet" "java/lang/Object") ∈ lw_tbl := lw_at lw_m19 134 rfl
theorem q187 : (Jvm.Cond.initialized "java/util/AbstractMap") ∈ lw_all := lw_g (lw_at lw_m1 25 rfl) rfl
theorem q621 : (Jvm.Cond.instanceMethod ({ cls := "java/util/AbstractMap", name := "<init>", desc := "()V" } : Jvm.MethodName)) ∈ lw_all := lw_g (lw_at lw_m2 219 rfl) rfl
theorem q622 : (Jvm.Cond.code ({ cls := "java/util/AbstractMap", name := "<init>", desc := "()V" } : Jvm.MethodName) prog_50_method_1_code (1 : Nat) (Option.none : Option Jvm.ClassFile.FieldType)) ∈ lw_all := lw_g (lw_at lw_m2 220 rfl) rfl
theorem q623 : (Jvm.Cond.methodLink "java/util/AbstractMap" (1 : Nat) ({ cls := "java/lang/Object", name := "<init>", desc := "()V" } : Jvm.MethodName)) ∈ lw_all := lw_g (lw_at lw_m2 221 rfl) rfl
theorem q1176 : (Jvm.Cond.soleField "java/util/AbstractMap" "keySet") ∈ lw_all := lw_g (lw_at lw_m5 54 rfl) rfl
theorem q1178 : (Jvm.Cond.soleField "java/util/AbstractMap" "values") ∈ lw_all := lw_g (lw_at lw_m5 56 rfl) rfl
theorem q188 : (Jvm.Cond.initialized "java/util/HashMap") ∈ lw_all := lw_g (lw_at lw_m1 26 rfl) rfl
theorem q618 : (Jvm.Cond.instanceMethod ({ cls := "java/util/HashMap", name := "<init>", desc := "(IF)V" } : Jvm.MethodName)) ∈ lw_all := lw_g (lw_at lw_m2 216 rfl) rfl
theorem q619 : (Jvm.Cond.code ({ cls := "java/util/HashMap", name := "<init>", desc := "(IF)V" } : Jvm.MethodName) prog_59_method_5_code (3 : Nat) (Option.none : Option Jvm.ClassFile.FieldType)) ∈ lw_all := lw_g (lw_at lw_m2 217 rfl) rfl
theorem q620 : (Jvm.Cond.methodLink "java/util/HashMap" (43 : Nat) ({ cls := "java/util/AbstractMap", name := "<init>", desc := "()V" } : Jvm.MethodName)) ∈ lw_all := lw_g (lw_at lw_m2 218 rfl) rfl
theorem q624 : (Jvm.Cond.classLink "java/util/HashMap" (49 : Nat) "java/lang/IllegalArgumentException") ∈ lw_all := lw_g (lw_at lw_m2 222 rfl) rfl
theorem q625 : (Jvm.Cond.classLink "java/util/HashMap" (51 : Nat) "java/lang/StringBuilder") ∈ lw_all := lw_g (lw_at lw_m2 223 rfl) rfl
theorem q626 : (Jvm.Cond.methodLink "java/util/HashMap" (53 : Nat) ({ cls := "java/lang/StringBuilder", name := "<init>", desc := "()V" } : Jvm.MethodName)) ∈ lw_all := lw_g (lw_at lw_m2 224 rfl) rfl
theorem q627 : (Jvm.Cond.stringRef "java/util/HashMap" (54 : Nat) "Illegal initial capacity: ") ∈ lw_tbl := lw_at lw_m2 225 rfl
theorem q628 : (Jvm.Cond.methodLink "java/util/HashMap" (56 : Nat) ({ cls := "java/lang/StringBuilder", name := "append", desc := "(Ljava/lang/String;)Ljava/lang/StringBuilder;" } : Jvm.MethodName)) ∈ lw_all := lw_g (lw_at lw_m2 226 rfl) rfl
theorem q629 : (Jvm.Cond.methodLink "java/util/HashMap" (60 : Nat) ({ cls := "java/lang/StringBuilder", name := "append", desc := "(I)Ljava/lang/StringBuilder;" } : Jvm.MethodName)) ∈ lw_all := lw_g (lw_at lw_m2 227 rfl) rfl
theorem q630 : (Jvm.Cond.methodLink "java/util/HashMap" (63 : Nat) ({ cls := "java/lang/StringBuilder", name := "toString", desc := "()Ljava/lang/String;" } : Jvm.MethodName)) ∈ lw_all := lw_g (lw_at lw_m2 228 rfl) rfl
theorem q631 : (Jvm.Cond.methodLink "java/util/HashMap" (67 : Nat) ({ cls := "java/lang/IllegalArgumentException", name := "<init>", desc := "(Ljava/lang/String;)V" } : Jvm.MethodName)) ∈ lw_all := lw_g (lw_at lw_m2 229 rfl) rfl
theorem q632 : (Jvm.Cond.constant "java/util/HashMap" (42 : Nat) (1073741824 : Int32)) ∈ lw_all := lw_g (lw_at lw_m2 230 rfl) rfl
theorem q633 : (Jvm.Cond.methodLink "java/util/HashMap" (70 : Nat) ({ cls := "java/lang/Float", name := "isNaN", desc := "(F)Z" } : Jvm.MethodName)) ∈ lw_all := lw_g (lw_at lw_m2 231 rfl) rfl
theorem q636 : (Jvm.Cond.stringRef "java/util/HashMap" (76 : Nat) "Illegal load factor: ") ∈ lw_tbl := lw_at lw_m2 234 rfl
theorem q637 : (Jvm.Cond.methodLink "java/util/HashMap" (78 : Nat) ({ cls := "java/lang/StringBuilder", name := "append", desc := "(F)Ljava/lang/StringBuilder;" } : Jvm.MethodName)) ∈ lw_all := lw_g (lw_at lw_m2 235 rfl) rfl
theorem q997 : (Jvm.Cond.selects "java/util/HashMap" ({ cls := "java/lang/Object", name := "getClass", desc := "()Ljava/lang/Class;" } : Jvm.MethodName) ({ cls := "java/lang/Object", name := "getClass", desc := "()Ljava/lang/Class;" } : Jvm.MethodName)) ∈ lw_all := lw_g (lw_at lw_m4 115 rfl) rfl
theorem q1127 : (Jvm.Cond.methodLink "java/util/HashMap" (85 : Nat) ({ cls := "java/util/HashMap", name := "tableSizeFor", desc := "(I)I" } : Jvm.MethodName)) ∈ lw_all := lw_g (lw_at lw_m5 5 rfl) rfl
theorem q1128 : (Jvm.Cond.static ({ cls := "java/util/HashMap", name := "tableSizeFor", desc := "(I)I" } : Jvm.MethodName)) ∈ lw_all := lw_g (lw_at lw_m5 6 rfl) rfl
theorem q1129 : (Jvm.Cond.code ({ cls := "java/util/HashMap", name := "tableSizeFor", desc := "(I)I" } : Jvm.MethodName) prog_59_method_4_code (2 : Nat) (Option.some Jvm.ClassFile.FieldType.int)) ∈ lw_all := lw_g (lw_at lw_m5 7 rfl) rfl
theorem q1130 : (Jvm.Cond.methodLink "java/util/HashMap" (34 : Nat) ({ cls := "java/lang/Integer", name := "numberOfLeadingZeros", desc := "(I)I" } : Jvm.MethodName)) ∈ lw_all := lw_g (lw_at lw_m5 8 rfl) rfl
theorem q1138 : (Jvm.Cond.fieldLink "java/util/HashMap" (105 : Nat) "java/util/HashMap" "table" "[Ljava/util/HashMap$Node;") ∈ lw_all := lw_g (lw_at lw_m5 16 rfl) rfl
theorem q1139 : (Jvm.Cond.fieldLink "java/util/HashMap" (266 : Nat) "java/util/HashMap" "entrySet" "Ljava/util/Set;") ∈ lw_all := lw_g (lw_at lw_m5 17 rfl) rfl
theorem q1143 : (Jvm.Cond.fieldLink "java/util/HashMap" (156 : Nat) "java/util/HashMap" "size" "I") ∈ lw_all := lw_g (lw_at lw_m5 21 rfl) rfl
theorem q1148 : (Jvm.Cond.fieldLink "java/util/HashMap" (202 : Nat) "java/util/HashMap" "modCount" "I") ∈ lw_all := lw_g (lw_at lw_m5 26 rfl) rfl
theorem q1149 : (Jvm.Cond.fieldLink "java/util/HashMap" (88 : Nat) "java/util/HashMap" "threshold" "I") ∈ lw_all := lw_g (lw_at lw_m5 27 rfl) rfl
theorem q1150 : (Jvm.Cond.fieldLink "java/util/HashMap" (81 : Nat) "java/util/HashMap" "loadFactor" "F") ∈ lw_all := lw_g (lw_at lw_m5 28 rfl) rfl
theorem q1151 : (Jvm.Cond.fieldLink "java/util/HashMap" (239 : Nat) "java/util/HashMap" "keySet" "Ljava/util/Set;") ∈ lw_all := lw_g (lw_at lw_m5 29 rfl) rfl
theorem q1152 : (Jvm.Cond.sameField "java/util/HashMap" "java/util/AbstractMap" "keySet" "Ljava/util/Set;") ∈ lw_all := lw_g (lw_at lw_m5 30 rfl) rfl
theorem q1164 : (Jvm.Cond.soleField "java/util/HashMap" "table") ∈ lw_all := lw_g (lw_at lw_m5 42 rfl) rfl
theorem q1166 : (Jvm.Cond.soleField "java/util/HashMap" "entrySet") ∈ lw_all := lw_g (lw_at lw_m5 44 rfl) rfl
theorem q1168 : (Jvm.Cond.soleField "java/util/HashMap" "size") ∈ lw_all := lw_g (lw_at lw_m5 46 rfl) rfl
theorem q1170 : (Jvm.Cond.soleField "java/util/HashMap" "modCount") ∈ lw_all := lw_g (lw_at lw_m5 48 rfl) rfl
theorem q1172 : (Jvm.Cond.soleField "java/util/HashMap" "threshold") ∈ lw_all := lw_g (lw_at lw_m5 50 rfl) rfl
theorem q1174 : (Jvm.Cond.soleField "java/util/HashMap" "loadFactor") ∈ lw_all := lw_g (lw_at lw_m5 52 rfl) rfl
theorem q1185 : (Jvm.Cond.instantiable "java/util/HashMap" (8 : Nat)) ∈ lw_all := lw_g (lw_at lw_m5 63 rfl) rfl
theorem q1187 : (Jvm.Cond.instanceMethod ({ cls := "java/util/HashMap", name := "<init>", desc := "()V" } : Jvm.MethodName)) ∈ lw_all := lw_g (lw_at lw_m5 65 rfl) rfl
theorem q1188 : (Jvm.Cond.code ({ cls := "java/util/HashMap", name := "<init>", desc := "()V" } : Jvm.MethodName) prog_59_method_7_code (1 : Nat) (Option.none : Option Jvm.ClassFile.FieldType)) ∈ lw_all := lw_g (lw_at lw_m5 66 rfl) rfl
theorem q1189 : (Jvm.Cond.constantFloat "java/util/HashMap" (92 : Nat) (1061158912 : UInt32)) ∈ lw_all := lw_g (lw_at lw_m5 67 rfl) rfl
theorem q1190 : (Jvm.Cond.lays "java/util/HashMap" "java/util/HashMap" "table" "[Ljava/util/HashMap$Node;") ∈ lw_all := lw_g (lw_at lw_m5 68 rfl) rfl
theorem q1191 : (Jvm.Cond.lays "java/util/HashMap" "java/util/HashMap" "entrySet" "Ljava/util/Set;") ∈ lw_all := lw_g (lw_at lw_m5 69 rfl) rfl
theorem q1192 : (Jvm.Cond.lays "java/util/HashMap" "java/util/HashMap" "size" "I") ∈ lw_all := lw_g (lw_at lw_m5 70 rfl) rfl
theorem q1193 : (Jvm.Cond.lays "java/util/HashMap" "java/util/HashMap" "modCount" "I") ∈ lw_all := lw_g (lw_at lw_m5 71 rfl) rfl
theorem q1194 : (Jvm.Cond.lays "java/util/HashMap" "java/util/HashMap" "threshold" "I") ∈ lw_all := lw_g (lw_at lw_m5 72 rfl) rfl
theorem q1195 : (Jvm.Cond.laysFinal "java/util/HashMap" "java/util/HashMap" "loadFactor" "F") ∈ lw_all := lw_g (lw_at lw_m5 73 rfl) rfl
theorem q1196 : (Jvm.Cond.lays "java/util/HashMap" "java/util/AbstractMap" "keySet" "Ljava/util/Set;") ∈ lw_all := lw_g (lw_at lw_m5 74 rfl) rfl
theorem q1197 : (Jvm.Cond.lays "java/util/HashMap" "java/util/AbstractMap" "values" "Ljava/util/Collection;") ∈ lw_all := lw_g (lw_at lw_m5 75 rfl) rfl
theorem q1198 : (Jvm.Cond.superclass "java/util/HashMap" "java/util/AbstractMap") ∈ lw_all := lw_g (lw_at lw_m5 76 rfl) rfl
theorem q1599 : (Jvm.Cond.instanceMethod ({ cls := "java/util/HashMap", name := "isEmpty", desc := "()Z" } : Jvm.MethodName)) ∈ lw_all := lw_g (lw_at lw_m6 237 rfl) rfl
theorem q1600 : (Jvm.Cond.selects "java/util/HashMap" ({ cls := "java/util/HashMap", name := "isEmpty", desc := "()Z" } : Jvm.MethodName) ({ cls := "java/util/HashMap", name := "isEmpty", desc := "()Z" } : Jvm.MethodName)) ∈ lw_all := lw_g (lw_at lw_m6 238 rfl) rfl
theorem q1601 : (Jvm.Cond.sameMethod "java/util/HashMap" "java/util/HashMap" "isEmpty" "()Z") ∈ lw_all := lw_g (lw_at lw_m6 239 rfl) rfl
theorem q1603 : (Jvm.Cond.code ({ cls := "java/util/HashMap", name := "isEmpty", desc := "()Z" } : Jvm.MethodName) prog_59_method_11_code (1 : Nat) (Option.some Jvm.ClassFile.FieldType.boolean)) ∈ lw_all := lw_g (lw_at lw_m7 1 rfl) rfl
theorem q1624 : (Jvm.Cond.instanceMethod ({ cls := "java/util/HashMap", name := "containsKey", desc := "(Ljava/lang/Object;)Z" } : Jvm.MethodName)) ∈ lw_all := lw_g (lw_at lw_m7 22 rfl) rfl
theorem q1625 : (Jvm.Cond.selects "java/util/HashMap" ({ cls := "java/util/HashMap", name := "containsKey", desc := "(Ljava/lang/Object;)Z" } : Jvm.MethodName) ({ cls := "java/util/HashMap", name := "containsKey", desc := "(Ljava/lang/Object;)Z" } : Jvm.MethodName)) ∈ lw_all := lw_g (lw_at lw_m7 23 rfl) rfl
theorem q1626 : (Jvm.Cond.sameMethod "java/util/HashMap" "java/util/HashMap" "containsKey" "(Ljava/lang/Object;)Z") ∈ lw_all := lw_g (lw_at lw_m7 24 rfl) rfl
theorem q1628 : (Jvm.Cond.code ({ cls := "java/util/HashMap", name := "containsKey", desc := "(Ljava/lang/Object;)Z" } : Jvm.MethodName) prog_59_method_14_code (2 : Nat) (Option.some Jvm.ClassFile.FieldType.boolean)) ∈ lw_all := lw_g (lw_at lw_m7 26 rfl) rfl
theorem q1629 : (Jvm.Cond.methodLink "java/util/HashMap" (158 : Nat) ({ cls := "java/util/HashMap", name := "getNode", desc := "(Ljava/lang/Object;)Ljava/util/HashMap$Node;" } : Jvm.MethodName)) ∈ lw_all := lw_g (lw_at lw_m7 27 rfl) rfl
theorem q1630 : (Jvm.Cond.instanceMethod ({ cls := "java/util/HashMap", name := "getNode", desc := "(Ljava/lang/Object;)Ljava/util/HashMap$Node;" } : Jvm.MethodName)) ∈ lw_all := lw_g (lw_at lw_m7 28 rfl) rfl
theorem q1631 : (Jvm.Cond.selects "java/util/HashMap" ({ cls := "java/util/HashMap", name := "getNode", desc := "(Ljava/lang/Object;)Ljava/util/HashMap$Node;" } : Jvm.MethodName) ({ cls := "java/util/HashMap", name := "getNode", desc := "(Ljava/lang/Object;)Ljava/util/HashMap$Node;" } : Jvm.MethodName)) ∈ lw_all := lw_g (lw_at lw_m7 29 rfl) rfl
theorem q1632 : (Jvm.Cond.sameMethod "java/util/HashMap" "java/util/HashMap" "getNode" "(Ljava/lang/Object;)Ljava/util/HashMap$Node;") ∈ lw_all := lw_g (lw_at lw_m7 30 rfl) rfl
theorem q1634 : (Jvm.Cond.code ({ cls := "java/util/HashMap", name := "getNode", desc := "(Ljava/lang/Object;)Ljava/util/HashMap$Node;" } : Jvm.MethodName) prog_59_method_13_code (8 : Nat) (Option.some (Jvm.ClassFile.FieldType.object "java/util/HashMap$Node"))) ∈ lw_all := lw_g (lw_at lw_m7 32 rfl) rfl
theorem q1635 : (Jvm.Cond.methodLink "java/util/HashMap" (149 : Nat) ({ cls := "java/util/HashMap", name := "hash", desc := "(Ljava/lang/Object;)I" } : Jvm.MethodName)) ∈ lw_all := lw_g (lw_at lw_m7 33 rfl) rfl
theorem q1636 : (Jvm.Cond.static ({ cls := "java/util/HashMap", name := "hash", desc := "(Ljava/lang/Object;)I" } : Jvm.MethodName)) ∈ lw_all := lw_g (lw_at lw_m7 34 rfl) rfl
theorem q1637 : (Jvm.Cond.code ({ cls := "java/util/HashMap", name := "hash", desc := "(Ljava/lang/Object;)I" } : Jvm.MethodName) prog_59_method_1_code (2 : Nat) (Option.some Jvm.ClassFile.FieldType.int)) ∈ lw_all := lw_g (lw_at lw_m7 35 rfl) rfl
theorem q1639 : (Jvm.Cond.methodLink "java/util/HashMap" (1 : Nat) ({ cls := "java/lang/Object", name := "hashCode", desc := "()I" } : Jvm.MethodName)) ∈ lw_all := lw_g (lw_at lw_m7 37 rfl) rfl
theorem q1733 : (Jvm.Cond.methodLink "java/util/HashMap" (173 : Nat) ({ cls := "java/lang/Object", name := "equals", desc := "(Ljava/lang/Object;)Z" } : Jvm.MethodName)) ∈ lw_all := lw_g (lw_at lw_m7 131 rfl) rfl
theorem q1771 : (Jvm.Cond.classLink "java/util/HashMap" (180 : Nat) "java/util/HashMap$TreeNode") ∈ lw_all := lw_g (lw_at lw_m7 169 rfl) rfl
theorem q1772 : (Jvm.Cond.methodLink "java/util/HashMap" (182 : Nat) ({ cls := "java/util/HashMap$TreeNode", name := "getTreeNode", desc := "(ILjava/lang/Object;)Ljava/util/HashMap$TreeNode;" } : Jvm.MethodName)) ∈ lw_all := lw_g (lw_at lw_m7 170 rfl) rfl
theorem q1786 : (Jvm.Cond.static ({ cls := "java/util/HashMap", name := "comparableClassFor", desc := "(Ljava/lang/Object;)Ljava/lang/Class;" } : Jvm.MethodName)) ∈ lw_all := lw_g (lw_at lw_m7 184 rfl) rfl
theorem q1787 : (Jvm.Cond.code ({ cls := "java/util/HashMap", name := "comparableClassFor", desc := "(Ljava/lang/Object;)Ljava/lang/Class;" } : Jvm.MethodName) prog_59_method_2_code (9 : Nat) (Option.some (Jvm.ClassFile.FieldType.object "java/lang/Class"))) ∈ lw_all := lw_g (lw_at lw_m7 185 rfl) rfl
theorem q1788 : (Jvm.Cond.classLink "java/util/HashMap" (7 : Nat) "java/lang/Comparable") ∈ lw_all := lw_g (lw_at lw_m7 186 rfl) rfl
theorem q1789 : (Jvm.Cond.methodLink "java/util/HashMap" (9 : Nat) ({ cls := "java/lang/Object", name := "getClass", desc := "()Ljava/lang/Class;" } : Jvm.MethodName)) ∈ lw_all := lw_g (lw_at lw_m7 187 rfl) rfl
theorem q1790 : (Jvm.Cond.classLink "java/util/HashMap" (13 : Nat) "java/lang/String") ∈ lw_all := lw_g (lw_at lw_m7 188 rfl) rfl
theorem q1792 : (Jvm.Cond.static ({ cls := "java/util/HashMap", name := "compareComparables", desc := "(Ljava/lang/Class;Ljava/lang/Object;Ljava/lang/Object;)I" } : Jvm.MethodName)) ∈ lw_all := lw_g (lw_at lw_m7 190 rfl) rfl
theorem q1793 : (Jvm.Cond.code ({ cls := "java/util/HashMap", name := "compareComparables", desc := "(Ljava/lang/Class;Ljava/lang/Object;Ljava/lang/Object;)I" } : Jvm.MethodName) prog_59_method_3_code (3 : Nat) (Option.some Jvm.ClassFile.FieldType.int)) ∈ lw_all := lw_g (lw_at lw_m7 191 rfl) rfl
theorem q1794 : (Jvm.Cond.interfaceEntry "java/util/HashMap" (30 : Nat)) ∈ lw_tbl := lw_at lw_m7 192 rfl
theorem q1795 : (Jvm.Cond.methodLink "java/util/HashMap" (30 : Nat) ({ cls := "java/lang/Comparable", name := "compareTo", desc := "(Ljava/lang/Object;)I" } : Jvm.MethodName)) ∈ lw_all := lw_g (lw_at lw_m7 193 rfl) rfl
theorem q2534 : (Jvm.Cond.instanceMethod ({ cls := "java/util/HashMap", name := "keySet", desc := "()Ljava/util/Set;" } : Jvm.MethodName)) ∈ lw_all := lw_g (lw_at lw_m10 212 rfl) rfl
theorem q2535 : (Jvm.Cond.selects "java/util/HashMap" ({ cls := "java/util/HashMap", name := "keySet", desc := "()Ljava/util/Set;" } : Jvm.MethodName) ({ cls := "java/util/HashMap", name := "keySet", desc := "()Ljava/util/Set;" } : Jvm.MethodName)) ∈ lw_all := lw_g (lw_at lw_m10 213 rfl) rfl
theorem q2536 : (Jvm.Cond.sameMethod "java/util/HashMap" "java/util/HashMap" "keySet" "()Ljava/util/Set;") ∈ lw_all := lw_g (lw_at lw_m10 214 rfl) rfl
theorem q2558 : (Jvm.Cond.code ({ cls := "java/util/HashMap", name := "keySet", desc := "()Ljava/util/Set;" } : Jvm.MethodName) prog_59_method_24_code (2 : Nat) (Option.some (Jvm.ClassFile.FieldType.object "java/util/Set"))) ∈ lw_all := lw_g (lw_at lw_m10 236 rfl) rfl
theorem q2559 : (Jvm.Cond.classLink "java/util/HashMap" (243 : Nat) "java/util/HashMap$KeySet") ∈ lw_all := lw_g (lw_at lw_m10 237 rfl) rfl
theorem q2561 : (Jvm.Cond.methodLink "java/util/HashMap" (245 : Nat) ({ cls := "java/util/HashMap$KeySet", name := "<init>", desc := "(Ljava/util/HashMap;)V" } : Jvm.MethodName)) ∈ lw_all := lw_g (lw_at lw_m10 239 rfl) rfl
theorem q2605 : (Jvm.Cond.instanceMethod ({ cls := "java/util/HashMap", name := "put", desc := "(Ljava/lang/Object;Ljava/lang/Object;)Ljava/lang/Object;" } : Jvm.MethodName)) ∈ lw_all := lw_g (lw_at lw_m11 43 rfl) rfl
theorem q2606 : (Jvm.Cond.selects "java/util/HashMap" ({ cls := "java/util/HashMap", name := "put", desc := "(Ljava/lang/Object;Ljava/lang/Object;)Ljava/lang/Object;" } : Jvm.MethodName) ({ cls := "java/util/HashMap", name := "put", desc := "(Ljava/lang/Object;Ljava/lang/Object;)Ljava/lang/Object;" } : Jvm.MethodName)) ∈ lw_all := lw_g (lw_at lw_m11 44 rfl) rfl
theorem q2607 : (Jvm.Cond.sameMethod "java/util/HashMap" "java/util/HashMap" "put" "(Ljava/lang/Object;Ljava/lang/Object;)Ljava/lang/Object;") ∈ lw_all := lw_g (lw_at lw_m11 45 rfl) rfl
theorem q2609 : (Jvm.Cond.code ({ cls := "java/util/HashMap", name := "put", desc := "(Ljava/lang/Object;Ljava/lang/Object;)Ljava/lang/Object;" } : Jvm.MethodName) prog_59_method_15_code (3 : Nat) (Option.some (Jvm.ClassFile.FieldType.object "java/lang/Object"))) ∈ lw_all := lw_g (lw_at lw_m11 47 rfl) rfl
theorem q2610 : (Jvm.Cond.methodLink "java/util/HashMap" (152 : Nat) ({ cls := "java/util/HashMap", name := "putVal", desc := "(ILjava/lang/Object;Ljava/lang/Object;ZZ)Ljava/lang/Object;" } : Jvm.MethodName)) ∈ lw_all := lw_g (lw_at lw_m11 48 rfl) rfl
theorem q2611 : (Jvm.Cond.instanceMethod ({ cls := "java/util/HashMap", name := "putVal", desc := "(ILjava/lang/Object;Ljava/lang/Object;ZZ)Ljava/lang/Object;" } : Jvm.MethodName)) ∈ lw_all := lw_g (lw_at lw_m11 49 rfl) rfl
theorem q2612 : (Jvm.Cond.selects "java/util/HashMap" ({ cls := "java/util/HashMap", name := "putVal", desc := "(ILjava/lang/Object;Ljava/lang/Object;ZZ)Ljava/lang/Object;" } : Jvm.MethodName) ({ cls := "java/util/HashMap", name := "putVal", desc := "(ILjava/lang/Object;Ljava/lang/Object;ZZ)Ljava/lang/Object;" } : Jvm.MethodName)) ∈ lw_all := lw_g (lw_at lw_m11 50 rfl) rfl
theorem q2613 : (Jvm.Cond.sameMethod "java/util/HashMap" "java/util/HashMap" "putVal" "(ILjava/lang/Object;Ljava/lang/Object;ZZ)Ljava/lang/Object;") ∈ lw_all := lw_g (lw_at lw_m11 51 rfl) rfl
theorem q2615 : (Jvm.Cond.code ({ cls := "java/util/HashMap", name := "putVal", desc := "(ILjava/lang/Object;Ljava/lang/Object;ZZ)Ljava/lang/Object;" } : Jvm.MethodName) prog_59_method_16_code (13 : Nat) (Option.some (Jvm.ClassFile.FieldType.object "java/lang/Object"))) ∈ lw_all := lw_g (lw_at lw_m11 53 rfl) rfl
theorem q2616 : (Jvm.Cond.methodLink "java/util/HashMap" (117 : Nat) ({ cls := "java/util/HashMap", name := "resize", desc := "()[Ljava/util/HashMap$Node;" } : Jvm.MethodName)) ∈ lw_all := lw_g (lw_at lw_m11 54 rfl) rfl
theorem q2617 : (Jvm.Cond.instanceMethod ({ cls := "java/util/HashMap", name := "resize", desc := "()[Ljava/util/HashMap$Node;" } : Jvm.MethodName)) ∈ lw_all := lw_g (lw_at lw_m11 55 rfl) rfl
theorem q2618 : (Jvm.Cond.selects "java/util/HashMap" ({ cls := "java/util/HashMap", name := "resize", desc := "()[Ljava/util/HashMap$Node;" } : Jvm.MethodName) ({ cls := "java/util/HashMap", name := "resize", desc := "()[Ljava/util/HashMap$Node;" } : Jvm.MethodName)) ∈ lw_all := lw_g (lw_at lw_m11 56 rfl) rfl
theorem q2619 : (Jvm.Cond.sameMethod "java/util/HashMap" "java/util/HashMap" "resize" "()[Ljava/util/HashMap$Node;") ∈ lw_all := lw_g (lw_at lw_m11 57 rfl) rfl
theorem q2621 : (Jvm.Cond.code ({ cls := "java/util/HashMap", name := "resize", desc := "()[Ljava/util/HashMap$Node;" } : Jvm.MethodName) prog_59_method_17_code (14 : Nat) (Option.some (Jvm.ClassFile.FieldType.array (Jvm.ClassFile.FieldType.object "java/util/HashMap$Node")))) ∈ lw_all := lw_g (lw_at lw_m11 59 rfl) rfl
theorem q2622 : (Jvm.Cond.constant "java/util/HashMap" (209 : Nat) (2147483647 : Int32)) ∈ lw_all := lw_g (lw_at lw_m11 60 rfl) rfl
theorem q2623 : (Jvm.Cond.constantFloat "java/util/HashMap" (210 : Nat) (1317011456 : UInt32)) ∈ lw_all := lw_g (lw_at lw_m11 61 rfl) rfl
theorem q2624 : (Jvm.Cond.classLink "java/util/HashMap" (163 : Nat) "java/util/HashMap$Node") ∈ lw_all := lw_g (lw_at lw_m11 62 rfl) rfl
theorem q2626 : (Jvm.Cond.methodLink "java/util/HashMap" (211 : Nat) ({ cls := "java/util/HashMap$TreeNode", name := "split", desc := "(Ljava/util/HashMap;[Ljava/util/HashMap$Node;II)V" } : Jvm.MethodName)) ∈ lw_all := lw_g (lw_at lw_m11 64 rfl) rfl
theorem q2636 : (Jvm.Cond.instanceMethod ({ cls := "java/util/HashMap", name := "replacementNode", desc := "(Ljava/util/HashMap$Node;Ljava/util/HashMap$Node;)Ljava/util/HashMap$Node;" } : Jvm.MethodName)) ∈ lw_all := lw_g (lw_at lw_m11 74 rfl) rfl
theorem q2637 : (Jvm.Cond.selects "java/util/HashMap" ({ cls := "java/util/HashMap", name := "replacementNode", desc := "(Ljava/util/HashMap$Node;Ljava/util/HashMap$Node;)Ljava/util/HashMap$Node;" } : Jvm.MethodName) ({ cls := "java/util/HashMap", name := "replacementNode", desc := "(Ljava/util/HashMap$Node;Ljava/util/HashMap$Node;)Ljava/util/HashMap$Node;" } : Jvm.MethodName)) ∈ lw_all := lw_g (lw_at lw_m11 75 rfl) rfl
theorem q2638 : (Jvm.Cond.sameMethod "java/util/HashMap" "java/util/HashMap" "replacementNode" "(Ljava/util/HashMap$Node;Ljava/util/HashMap$Node;)Ljava/util/HashMap$Node;") ∈ lw_all := lw_g (lw_at lw_m11 76 rfl) rfl
theorem q2660 : (Jvm.Cond.fieldLink "java/util/HashMap" (168 : Nat) "java/util/HashMap$Node" "hash" "I") ∈ lw_all := lw_g (lw_at lw_m11 98 rfl) rfl
theorem q2667 : (Jvm.Cond.fieldLink "java/util/HashMap" (170 : Nat) "java/util/HashMap$Node" "key" "Ljava/lang/Object;") ∈ lw_all := lw_g (lw_at lw_m11 105 rfl) rfl
theorem q2671 : (Jvm.Cond.fieldLink "java/util/HashMap" (162 : Nat) "java/util/HashMap$Node" "value" "Ljava/lang/Object;") ∈ lw_all := lw_g (lw_at lw_m11 109 rfl) rfl
theorem q2678 : (Jvm.Cond.fieldLink "java/util/HashMap" (177 : Nat) "java/util/HashMap$Node" "next" "Ljava/util/HashMap$Node;") ∈ lw_all := lw_g (lw_at lw_m11 116 rfl) rfl
theorem q2679 : (Jvm.Cond.fieldLink "java/util/HashMap" (223 : Nat) "java/util/HashMap$TreeNode" "next" "Ljava/util/HashMap$Node;") ∈ lw_all := lw_g (lw_at lw_m11 117 rfl) rfl
theorem q2697 : (Jvm.Cond.code ({ cls := "java/util/HashMap", name := "replacementNode", desc := "(Ljava/util/HashMap$Node;Ljava/util/HashMap$Node;)Ljava/util/HashMap$Node;" } : Jvm.MethodName) prog_59_method_47_code (3 : Nat) (Option.some (Jvm.ClassFile.FieldType.object "java/util/HashMap$Node"))) ∈ lw_all := lw_g (lw_at lw_m11 135 rfl) rfl
theorem q2699 : (Jvm.Cond.methodLink "java/util/HashMap" (375 : Nat) ({ cls := "java/util/HashMap$Node", name := "<init>", desc := "(ILjava/lang/Object;Ljava/lang/Object;Ljava/util/HashMap$Node;)V" } : Jvm.MethodName)) ∈ lw_all := lw_g (lw_at lw_m11 137 rfl) rfl
theorem q2723 : (Jvm.Cond.methodLink "java/util/HashMap" (186 : Nat) ({ cls := "java/util/HashMap", name := "newNode", desc := "(ILjava/lang/Object;Ljava/lang/Object;Ljava/util/HashMap$Node;)Ljava/util/HashMap$Node;" } : Jvm.MethodName)) ∈ lw_all := lw_g (lw_at lw_m11 161 rfl) rfl
theorem q2724 : (Jvm.Cond.instanceMethod ({ cls := "java/util/HashMap", name := "newNode", desc := "(ILjava/lang/Object;Ljava/lang/Object;Ljava/util/HashMap$Node;)Ljava/util/HashMap$Node;" } : Jvm.MethodName)) ∈ lw_all := lw_g (lw_at lw_m11 162 rfl) rfl
theorem q2725 : (Jvm.Cond.selects "java/util/HashMap" ({ cls := "java/util/HashMap", name := "newNode", desc := "(ILjava/lang/Object;Ljava/lang/Object;Ljava/util/HashMap$Node;)Ljava/util/HashMap$Node;" } : Jvm.MethodName) ({ cls := "java/util/HashMap", name := "newNode", desc := "(ILjava/lang/Object;Ljava/lang/Object;Ljava/util/HashMap$Node;)Ljava/util/HashMap$Node;" } : Jvm.MethodName)) ∈ lw_all := lw_g (lw_at lw_m11 163 rfl) rfl
theorem q2726 : (Jvm.Cond.sameMethod "java/util/HashMap" "java/util/HashMap" "newNode" "(ILjava/lang/Object;Ljava/lang/Object;Ljava/util/HashMap$Node;)Ljava/util/HashMap$Node;") ∈ lw_all := lw_g (lw_at lw_m11 164 rfl) rfl
theorem q2734 : (Jvm.Cond.code ({ cls := "java/util/HashMap", name := "newNode", desc := "(ILjava/lang/Object;Ljava/lang/Object;Ljava/util/HashMap$Node;)Ljava/util/HashMap$Node;" } : Jvm.MethodName) prog_59_method_46_code (5 : Nat) (Option.some (Jvm.ClassFile.FieldType.object "java/util/HashMap$Node"))) ∈ lw_all := lw_g (lw_at lw_m11 172 rfl) rfl
theorem q2735 : (Jvm.Cond.methodLink "java/util/HashMap" (190 : Nat) ({ cls := "java/util/HashMap$TreeNode", name := "putTreeVal", desc := "(Ljava/util/HashMap;[Ljava/util/HashMap$Node;ILjava/lang/Object;Ljava/lang/Object;)Ljava/util/HashMap$TreeNode;" } : Jvm.MethodName)) ∈ lw_all := lw_g (lw_at lw_m11 173 rfl) rfl
theorem q2740 : (Jvm.Cond.instanceMethod ({ cls := "java/util/HashMap", name := "newTreeNode", desc := "(ILjava/lang/Object;Ljava/lang/Object;Ljava/util/HashMap$Node;)Ljava/util/HashMap$TreeNode;" } : Jvm.MethodName)) ∈ lw_all := lw_g (lw_at lw_m11 178 rfl) rfl
theorem q2741 : (Jvm.Cond.selects "java/util/HashMap" ({ cls := "java/util/HashMap", name := "newTreeNode", desc := "(ILjava/lang/Object;Ljava/lang/Object;Ljava/util/HashMap$Node;)Ljava/util/HashMap$TreeNode;" } : Jvm.MethodName) ({ cls := "java/util/HashMap", name := "newTreeNode", desc := "(ILjava/lang/Object;Ljava/lang/Object;Ljava/util/HashMap$Node;)Ljava/util/HashMap$TreeNode;" } : Jvm.MethodName)) ∈ lw_all := lw_g (lw_at lw_m11 179 rfl) rfl
theorem q2742 : (Jvm.Cond.sameMethod "java/util/HashMap" "java/util/HashMap" "newTreeNode" "(ILjava/lang/Object;Ljava/lang/Object;Ljava/util/HashMap$Node;)Ljava/util/HashMap$TreeNode;") ∈ lw_all := lw_g (lw_at lw_m11 180 rfl) rfl
theorem q2756 : (Jvm.Cond.fieldLink "java/util/HashMap" (219 : Nat) "java/util/HashMap$TreeNode" "prev" "Ljava/util/HashMap$TreeNode;") ∈ lw_all := lw_g (lw_at lw_m11 194 rfl) rfl
theorem q2775 : (Jvm.Cond.code ({ cls := "java/util/HashMap", name := "newTreeNode", desc := "(ILjava/lang/Object;Ljava/lang/Object;Ljava/util/HashMap$Node;)Ljava/util/HashMap$TreeNode;" } : Jvm.MethodName) prog_59_method_48_code (5 : Nat) (Option.some (Jvm.ClassFile.FieldType.object "java/util/HashMap$TreeNode"))) ∈ lw_all := lw_g (lw_at lw_m11 213 rfl) rfl
theorem q2776 : (Jvm.Cond.methodLink "java/util/HashMap" (378 : Nat) ({ cls := "java/util/HashMap$TreeNode", name := "<init>", desc := "(ILjava/lang/Object;Ljava/lang/Object;Ljava/util/HashMap$Node;)V" } : Jvm.MethodName)) ∈ lw_all := lw_g (lw_at lw_m11 214 rfl) rfl
theorem q2777 : (Jvm.Cond.methodLink "java/util/HashMap" (194 : Nat) ({ cls := "java/util/HashMap", name := "treeifyBin", desc := "([Ljava/util/HashMap$Node;I)V" } : Jvm.MethodName)) ∈ lw_all := lw_g (lw_at lw_m11 215 rfl) rfl
theorem q2778 : (Jvm.Cond.instanceMethod ({ cls := "java/util/HashMap", name := "treeifyBin", desc := "([Ljava/util/HashMap$Node;I)V" } : Jvm.MethodName)) ∈ lw_all := lw_g (lw_at lw_m11 216 rfl) rfl
theorem q2779 : (Jvm.Cond.selects "java/util/HashMap" ({ cls := "java/util/HashMap", name := "treeifyBin", desc := "([Ljava/util/HashMap$Node;I)V" } : Jvm.MethodName) ({ cls := "java/util/HashMap", name := "treeifyBin", desc := "([Ljava/util/HashMap$Node;I)V" } : Jvm.MethodName)) ∈ lw_all := lw_g (lw_at lw_m11 217 rfl) rfl
theorem q2780 : (Jvm.Cond.sameMethod "java/util/HashMap" "java/util/HashMap" "treeifyBin" "([Ljava/util/HashMap$Node;I)V") ∈ lw_all := lw_g (lw_at lw_m11 218 rfl) rfl
theorem q2782 : (Jvm.Cond.code ({ cls := "java/util/HashMap", name := "treeifyBin", desc := "([Ljava/util/HashMap$Node;I)V" } : Jvm.MethodName) prog_59_method_18_code (9 : Nat) (Option.none : Option Jvm.ClassFile.FieldType)) ∈ lw_all := lw_g (lw_at lw_m11 220 rfl) rfl
theorem q2783 : (Jvm.Cond.methodLink "java/util/HashMap" (215 : Nat) ({ cls := "java/util/HashMap", name := "replacementTreeNode", desc := "(Ljava/util/HashMap$Node;Ljava/util/HashMap$Node;)Ljava/util/HashMap$TreeNode;" } : Jvm.MethodName)) ∈ lw_all := lw_g (lw_at lw_m11 221 rfl) rfl
theorem q2784 : (Jvm.Cond.instanceMethod ({ cls := "java/util/HashMap", name := "replacementTreeNode", desc := "(Ljava/util/HashMap$Node;Ljava/util/HashMap$Node;)Ljava/util/HashMap$TreeNode;" } : Jvm.MethodName)) ∈ lw_all := lw_g (lw_at lw_m11 222 rfl) rfl
theorem q2785 : (Jvm.Cond.selects "java/util/HashMap" ({ cls := "java/util/HashMap", name := "replacementTreeNode", desc := "(Ljava/util/HashMap$Node;Ljava/util/HashMap$Node;)Ljava/util/HashMap$TreeNode;" } : Jvm.MethodName) ({ cls := "java/util/HashMap", name := "replacementTreeNode", desc := "(Ljava/util/HashMap$Node;Ljava/util/HashMap$Node;)Ljava/util/HashMap$TreeNode;" } : Jvm.MethodName)) ∈ lw_all := lw_g (lw_at lw_m11 223 rfl) rfl
theorem q2786 : (Jvm.Cond.sameMethod "java/util/HashMap" "java/util/HashMap" "replacementTreeNode" "(Ljava/util/HashMap$Node;Ljava/util/HashMap$Node;)Ljava/util/HashMap$TreeNode;") ∈ lw_all := lw_g (lw_at lw_m11 224 rfl) rfl
theorem q2790 : (Jvm.Cond.code ({ cls := "java/util/HashMap", name := "replacementTreeNode", desc := "(Ljava/util/HashMap$Node;Ljava/util/HashMap$Node;)Ljava/util/HashMap$TreeNode;" } : Jvm.MethodName) prog_59_method_49_code (3 : Nat) (Option.some (Jvm.ClassFile.FieldType.object "java/util/HashMap$TreeNode"))) ∈ lw_all := lw_g (lw_at lw_m11 228 rfl) rfl
theorem q2791 : (Jvm.Cond.methodLink "java/util/HashMap" (224 : Nat) ({ cls := "java/util/HashMap$TreeNode", name := "treeify", desc := "([Ljava/util/HashMap$Node;)V" } : Jvm.MethodName)) ∈ lw_all := lw_g (lw_at lw_m11 229 rfl) rfl
theorem q2792 : (Jvm.Cond.methodLink "java/util/HashMap" (198 : Nat) ({ cls := "java/util/HashMap", name := "afterNodeAccess", desc := "(Ljava/util/HashMap$Node;)V" } : Jvm.MethodName)) ∈ lw_all := lw_g (lw_at lw_m11 230 rfl) rfl
theorem q2793 : (Jvm.Cond.instanceMethod ({ cls := "java/util/HashMap", name := "afterNodeAccess", desc := "(Ljava/util/HashMap$Node;)V" } : Jvm.MethodName)) ∈ lw_all := lw_g (lw_at lw_m11 231 rfl) rfl
theorem q2794 : (Jvm.Cond.selects "java/util/HashMap" ({ cls := "java/util/HashMap", name := "afterNodeAccess", desc := "(Ljava/util/HashMap$Node;)V" } : Jvm.MethodName) ({ cls := "java/util/HashMap", name := "afterNodeAccess", desc := "(Ljava/util/HashMap$Node;)V" } : Jvm.MethodName)) ∈ lw_all := lw_g (lw_at lw_m11 232 rfl) rfl
theorem q2795 : (Jvm.Cond.sameMethod "java/util/HashMap" "java/util/HashMap" "afterNodeAccess" "(Ljava/util/HashMap$Node;)V") ∈ lw_all := lw_g (lw_at lw_m11 233 rfl) rfl
theorem q2799 : (Jvm.Cond.code ({ cls := "java/util/HashMap", name := "afterNodeAccess", desc := "(Ljava/util/HashMap$Node;)V" } : Jvm.MethodName) prog_59_method_51_code (2 : Nat) (Option.none : Option Jvm.ClassFile.FieldType)) ∈ lw_all := lw_g (lw_at lw_m11 237 rfl) rfl
theorem q2800 : (Jvm.Cond.methodLink "java/util/HashMap" (205 : Nat) ({ cls := "java/util/HashMap", name := "afterNodeInsertion", desc := "(Z)V" } : Jvm.MethodName)) ∈ lw_all := lw_g (lw_at lw_m11 238 rfl) rfl
theorem q2801 : (Jvm.Cond.instanceMethod ({ cls := "java/util/HashMap", name := "afterNodeInsertion", desc := "(Z)V" } : Jvm.MethodName)) ∈ lw_all := lw_g (lw_at lw_m11 239 rfl) rfl
theorem q2802 : (Jvm.Cond.selects "java/util/HashMap" ({ cls := "java/util/HashMap", name := "afterNodeInsertion", desc := "(Z)V" } : Jvm.MethodName) ({ cls := "java/util/HashMap", name := "afterNodeInsertion", desc := "(Z)V" } : Jvm.MethodName)) ∈ lw_all := lw_g (lw_at lw_m12 0 rfl) rfl
theorem q2803 : (Jvm.Cond.sameMethod "java/util/HashMap" "java/util/HashMap" "afterNodeInsertion" "(Z)V") ∈ lw_all := lw_g (lw_at lw_m12 1 rfl) rfl
theorem q2811 : (Jvm.Cond.code ({ cls := "java/util/HashMap", name := "afterNodeInsertion", desc := "(Z)V" } : Jvm.MethodName) prog_59_method_52_code (2 : Nat) (Option.none : Option Jvm.ClassFile.FieldType)) ∈ lw_all := lw_g (lw_at lw_m12 9 rfl) rfl
theorem q2814 : (Jvm.Cond.instanceMethod ({ cls := "java/util/HashMap", name := "putAll", desc := "(Ljava/util/Map;)V" } : Jvm.MethodName)) ∈ lw_all := lw_g (lw_at lw_m12 12 rfl) rfl
theorem q2815 : (Jvm.Cond.selects "java/util/HashMap" ({ cls := "java/util/HashMap", name := "putAll", desc := "(Ljava/util/Map;)V" } : Jvm.MethodName) ({ cls := "java/util/HashMap", name := "putAll", desc := "(Ljava/util/Map;)V" } : Jvm.MethodName)) ∈ lw_all := lw_g (lw_at lw_m12 13 rfl) rfl
theorem q2816 : (Jvm.Cond.sameMethod "java/util/HashMap" "java/util/HashMap" "putAll" "(Ljava/util/Map;)V") ∈ lw_all := lw_g (lw_at lw_m12 14 rfl) rfl
theorem q2818 : (Jvm.Cond.code ({ cls := "java/util/HashMap", name := "putAll", desc := "(Ljava/util/Map;)V" } : Jvm.MethodName) prog_59_method_19_code (2 : Nat) (Option.none : Option Jvm.ClassFile.FieldType)) ∈ lw_all := lw_g (lw_at lw_m12 16 rfl) rfl
theorem q2819 : (Jvm.Cond.methodLink "java/util/HashMap" (96 : Nat) ({ cls := "java/util/HashMap", name := "putMapEntries", desc := "(Ljava/util/Map;Z)V" } : Jvm.MethodName)) ∈ lw_all := lw_g (lw_at lw_m12 17 rfl) rfl
theorem q2820 : (Jvm.Cond.instanceMethod ({ cls := "java/util/HashMap", name := "putMapEntries", desc := "(Ljava/util/Map;Z)V" } : Jvm.MethodName)) ∈ lw_all := lw_g (lw_at lw_m12 18 rfl) rfl
theorem q2821 : (Jvm.Cond.selects "java/util/HashMap" ({ cls := "java/util/HashMap", name := "putMapEntries", desc := "(Ljava/util/Map;Z)V" } : Jvm.MethodName) ({ cls := "java/util/HashMap", name := "putMapEntries", desc := "(Ljava/util/Map;Z)V" } : Jvm.MethodName)) ∈ lw_all := lw_g (lw_at lw_m12 19 rfl) rfl
theorem q2822 : (Jvm.Cond.sameMethod "java/util/HashMap" "java/util/HashMap" "putMapEntries" "(Ljava/util/Map;Z)V") ∈ lw_all := lw_g (lw_at lw_m12 20 rfl) rfl
theorem q2824 : (Jvm.Cond.code ({ cls := "java/util/HashMap", name := "putMapEntries", desc := "(Ljava/util/Map;Z)V" } : Jvm.MethodName) prog_59_method_9_code (8 : Nat) (Option.none : Option Jvm.ClassFile.FieldType)) ∈ lw_all := lw_g (lw_at lw_m12 22 rfl) rfl
theorem q2825 : (Jvm.Cond.interfaceEntry "java/util/HashMap" (100 : Nat)) ∈ lw_tbl := lw_at lw_m12 23 rfl
theorem q2826 : (Jvm.Cond.methodLink "java/util/HashMap" (100 : Nat) ({ cls := "java/util/Map", name := "size", desc := "()I" } : Jvm.MethodName)) ∈ lw_all := lw_g (lw_at lw_m12 24 rfl) rfl
theorem q2829 : (Jvm.Cond.castable "java/util/HashMap" "java/util/Map") ∈ lw_tbl := lw_at lw_m12 27 rfl
theorem q2830 : (Jvm.Cond.selects "java/util/HashMap" ({ cls := "java/util/Map", name := "size", desc := "()I" } : Jvm.MethodName) ({ cls := "java/util/HashMap", name := "size", desc := "()I" } : Jvm.MethodName)) ∈ lw_all := lw_g (lw_at lw_m12 28 rfl) rfl
theorem q2831 : (Jvm.Cond.unhidden "java/util/HashMap" "size" "()I") ∈ lw_tbl := lw_at lw_m12 29 rfl
theorem q2832 : (Jvm.Cond.instanceMethod ({ cls := "java/util/HashMap", name := "size", desc := "()I" } : Jvm.MethodName)) ∈ lw_all := lw_g (lw_at lw_m12 30 rfl) rfl
theorem q2833 : (Jvm.Cond.publicMethod ({ cls := "java/util/HashMap", name := "size", desc := "()I" } : Jvm.MethodName)) ∈ lw_tbl := lw_at lw_m12 31 rfl
theorem q2834 : (Jvm.Cond.code ({ cls := "java/util/HashMap", name := "size", desc := "()I" } : Jvm.MethodName) prog_59_method_10_code (1 : Nat) (Option.some Jvm.ClassFile.FieldType.int)) ∈ lw_all := lw_g (lw_at lw_m12 32 rfl) rfl
theorem q2838 : (Jvm.Cond.methodLink "java/util/HashMap" (109 : Nat) ({ cls := "java/lang/Math", name := "ceil", desc := "(D)D" } : Jvm.MethodName)) ∈ lw_all := lw_g (lw_at lw_m12 36 rfl) rfl
theorem q2864 : (Jvm.Cond.constantDouble "java/util/HashMap" (115 : Nat) (4742290407621132288 : UInt64)) ∈ lw_all := lw_g (lw_at lw_m12 62 rfl) rfl
theorem q2865 : (Jvm.Cond.interfaceEntry "java/util/HashMap" (121 : Nat)) ∈ lw_tbl := lw_at lw_m12 63 rfl
theorem q2866 : (Jvm.Cond.methodLink "java/util/HashMap" (121 : Nat) ({ cls := "java/util/Map", name := "entrySet", desc := "()Ljava/util/Set;" } : Jvm.MethodName)) ∈ lw_all := lw_g (lw_at lw_m12 64 rfl) rfl
theorem q2869 : (Jvm.Cond.selects "java/util/HashMap" ({ cls := "java/util/Map", name := "entrySet", desc := "()Ljava/util/Set;" } : Jvm.MethodName) ({ cls := "java/util/HashMap", name := "entrySet", desc := "()Ljava/util/Set;" } : Jvm.MethodName)) ∈ lw_all := lw_g (lw_at lw_m12 67 rfl) rfl
theorem q2870 : (Jvm.Cond.unhidden "java/util/HashMap" "entrySet" "()Ljava/util/Set;") ∈ lw_tbl := lw_at lw_m12 68 rfl
theorem q2871 : (Jvm.Cond.instanceMethod ({ cls := "java/util/HashMap", name := "entrySet", desc := "()Ljava/util/Set;" } : Jvm.MethodName)) ∈ lw_all := lw_g (lw_at lw_m12 69 rfl) rfl
theorem q2872 : (Jvm.Cond.publicMethod ({ cls := "java/util/HashMap", name := "entrySet", desc := "()Ljava/util/Set;" } : Jvm.MethodName)) ∈ lw_tbl := lw_at lw_m12 70 rfl
theorem q2873 : (Jvm.Cond.code ({ cls := "java/util/HashMap", name := "entrySet", desc := "()Ljava/util/Set;" } : Jvm.MethodName) prog_59_method_29_code (2 : Nat) (Option.some (Jvm.ClassFile.FieldType.object "java/util/Set"))) ∈ lw_all := lw_g (lw_at lw_m12 71 rfl) rfl
theorem q2874 : (Jvm.Cond.classLink "java/util/HashMap" (268 : Nat) "java/util/HashMap$EntrySet") ∈ lw_all := lw_g (lw_at lw_m12 72 rfl) rfl
theorem q2876 : (Jvm.Cond.methodLink "java/util/HashMap" (270 : Nat) ({ cls := "java/util/HashMap$EntrySet", name := "<init>", desc := "(Ljava/util/HashMap;)V" } : Jvm.MethodName)) ∈ lw_all := lw_g (lw_at lw_m12 74 rfl) rfl
theorem q2906 : (Jvm.Cond.interfaceEntry "java/util/HashMap" (125 : Nat)) ∈ lw_tbl := lw_at lw_m12 104 rfl
theorem q2907 : (Jvm.Cond.methodLink "java/util/HashMap" (125 : Nat) ({ cls := "java/util/Set", name := "iterator", desc := "()Ljava/util/Iterator;" } : Jvm.MethodName)) ∈ lw_all := lw_g (lw_at lw_m12 105 rfl) rfl
theorem q2908 : (Jvm.Cond.interfaceEntry "java/util/HashMap" (131 : Nat)) ∈ lw_tbl := lw_at lw_m12 106 rfl
theorem q2909 : (Jvm.Cond.methodLink "java/util/HashMap" (131 : Nat) ({ cls := "java/util/Iterator", name := "hasNext", desc := "()Z" } : Jvm.MethodName)) ∈ lw_all := lw_g (lw_at lw_m12 107 rfl) rfl
theorem q2910 : (Jvm.Cond.interfaceEntry "java/util/HashMap" (137 : Nat)) ∈ lw_tbl := lw_at lw_m12 108 rfl
theorem q2911 : (Jvm.Cond.methodLink "java/util/HashMap" (137 : Nat) ({ cls := "java/util/Iterator", name := "next", desc := "()Ljava/lang/Object;" } : Jvm.MethodName)) ∈ lw_all := lw_g (lw_at lw_m12 109 rfl) rfl
theorem q2912 : (Jvm.Cond.classLink "java/util/HashMap" (141 : Nat) "java/util/Map$Entry") ∈ lw_all := lw_g (lw_at lw_m12 110 rfl) rfl
theorem q2913 : (Jvm.Cond.interfaceEntry "java/util/HashMap" (143 : Nat)) ∈ lw_tbl := lw_at lw_m12 111 rfl
theorem q2914 : (Jvm.Cond.methodLink "java/util/HashMap" (143 : Nat) ({ cls := "java/util/Map$Entry", name := "getKey", desc := "()Ljava/lang/Object;" } : Jvm.MethodName)) ∈ lw_all := lw_g (lw_at lw_m12 112 rfl) rfl
theorem q2927 : (Jvm.Cond.interfaceEntry "java/util/HashMap" (146 : Nat)) ∈ lw_tbl := lw_at lw_m12 125 rfl
theorem q2928 : (Jvm.Cond.methodLink "java/util/HashMap" (146 : Nat) ({ cls := "java/util/Map$Entry", name := "getValue", desc := "()Ljava/lang/Object;" } : Jvm.MethodName)) ∈ lw_all := lw_g (lw_at lw_m12 126 rfl) rfl
theorem q3351 : (Jvm.Cond.instanceMethod ({ cls := "java/util/HashMap", name := "clear", desc := "()V" } : Jvm.MethodName)) ∈ lw_all := lw_g (lw_at lw_m14 69 rfl) rfl
theorem q3352 : (Jvm.Cond.selects "java/util/HashMap" ({ cls := "java/util/HashMap", name := "clear", desc := "()V" } : Jvm.MethodName) ({ cls := "java/util/HashMap", name := "clear", desc := "()V" } : Jvm.MethodName)) ∈ lw_all := lw_g (lw_at lw_m14 70 rfl) rfl
theorem q3353 : (Jvm.Cond.sameMethod "java/util/HashMap" "java/util/HashMap" "clear" "()V") ∈ lw_all := lw_g (lw_at lw_m14 71 rfl) rfl
theorem q3358 : (Jvm.Cond.code ({ cls := "java/util/HashMap", name := "clear", desc := "()V" } : Jvm.MethodName) prog_59_method_22_code (3 : Nat) (Option.none : Option Jvm.ClassFile.FieldType)) ∈ lw_all := lw_g (lw_at lw_m14 76 rfl) rfl
theorem q3365 : (Jvm.Cond.instanceMethod ({ cls := "java/util/HashMap", name := "get", desc := "(Ljava/lang/Object;)Ljava/lang/Object;" } : Jvm.MethodName)) ∈ lw_all := lw_g (lw_at lw_m14 83 rfl) rfl
theorem q3366 : (Jvm.Cond.selects "java/util/HashMap" ({ cls := "java/util/HashMap", name := "get", desc := "(Ljava/lang/Object;)Ljava/lang/Object;" } : Jvm.MethodName) ({ cls := "java/util/HashMap", name := "get", desc := "(Ljava/lang/Object;)Ljava/lang/Object;" } : Jvm.MethodName)) ∈ lw_all := lw_g (lw_at lw_m14 84 rfl) rfl
theorem q3367 : (Jvm.Cond.sameMethod "java/util/HashMap" "java/util/HashMap" "get" "(Ljava/lang/Object;)Ljava/lang/Object;") ∈ lw_all := lw_g (lw_at lw_m14 85 rfl) rfl
theorem q3373 : (Jvm.Cond.declares ({ cls := "java/util/HashMap", name := "getNode", desc := "(Ljava/lang/Object;)Ljava/util/HashMap$Node;" } : Jvm.MethodName)) ∈ lw_tbl := lw_at lw_m14 91 rfl
theorem q3376 : (Jvm.Cond.code ({ cls := "java/util/HashMap", name := "get", desc := "(Ljava/lang/Object;)Ljava/lang/Object;" } : Jvm.MethodName) prog_59_method_12_code (3 : Nat) (Option.some (Jvm.ClassFile.FieldType.object "java/lang/Object"))) ∈ lw_all := lw_g (lw_at lw_m14 94 rfl) rfl
theorem q4622 : (Jvm.Cond.castable "java/util/HashMap" "java/lang/Object") ∈ lw_tbl := lw_at lw_m19 140 rfl
theorem q189 : (Jvm.Cond.initialized "java/util/LinkedHashMap") ∈ lw_all := lw_g (lw_at lw_m1 27 rfl) rfl
theorem q613 : (Jvm.Cond.instantiable "java/util/LinkedHashMap" (12 : Nat)) ∈ lw_all := lw_g (lw_at lw_m2 211 rfl) rfl
theorem q615 : (Jvm.Cond.instanceMethod ({ cls := "java/util/LinkedHashMap", name := "<init>", desc := "(IF)V" } : Jvm.MethodName)) ∈ lw_all := lw_g (lw_at lw_m2 213 rfl) rfl
theorem q616 : (Jvm.Cond.code ({ cls := "java/util/LinkedHashMap", name := "<init>", desc := "(IF)V" } : Jvm.MethodName) prog_69_method_14_code (3 : Nat) (Option.none : Option Jvm.ClassFile.FieldType)) ∈ lw_all := lw_g (lw_at lw_m2 214 rfl) rfl
theorem q617 : (Jvm.Cond.methodLink "java/util/LinkedHashMap" (81 : Nat) ({ cls := "java/util/HashMap", name := "<init>", desc := "(IF)V" } : Jvm.MethodName)) ∈ lw_all := lw_g (lw_at lw_m2 215 rfl) rfl
theorem q1004 : (Jvm.Cond.selects "java/util/LinkedHashMap" ({ cls := "java/lang/Object", name := "getClass", desc := "()Ljava/lang/Class;" } : Jvm.MethodName) ({ cls := "java/lang/Object", name := "getClass", desc := "()Ljava/lang/Class;" } : Jvm.MethodName)) ∈ lw_all := lw_g (lw_at lw_m4 122 rfl) rfl
theorem q1131 : (Jvm.Cond.fieldLink "java/util/LinkedHashMap" (7 : Nat) "java/util/LinkedHashMap" "head" "Ljava/util/LinkedHashMap$Entry;") ∈ lw_all := lw_g (lw_at lw_m5 9 rfl) rfl
theorem q1134 : (Jvm.Cond.fieldLink "java/util/LinkedHashMap" (11 : Nat) "java/util/LinkedHashMap" "tail" "Ljava/util/LinkedHashMap$Entry;") ∈ lw_all := lw_g (lw_at lw_m5 12 rfl) rfl
theorem q1135 : (Jvm.Cond.fieldLink "java/util/LinkedHashMap" (64 : Nat) "java/util/LinkedHashMap" "accessOrder" "Z") ∈ lw_all := lw_g (lw_at lw_m5 13 rfl) rfl
theorem q1136 : (Jvm.Cond.fieldLink "java/util/LinkedHashMap" (1 : Nat) "java/util/LinkedHashMap" "putMode" "I") ∈ lw_all := lw_g (lw_at lw_m5 14 rfl) rfl
theorem q1140 : (Jvm.Cond.fieldLink "java/util/LinkedHashMap" (151 : Nat) "java/util/LinkedHashMap" "entrySet" "Ljava/util/Set;") ∈ lw_all := lw_g (lw_at lw_m5 18 rfl) rfl
theorem q1141 : (Jvm.Cond.sameField "java/util/LinkedHashMap" "java/util/HashMap" "entrySet" "Ljava/util/Set;") ∈ lw_all := lw_g (lw_at lw_m5 19 rfl) rfl
theorem q1146 : (Jvm.Cond.sameField "java/util/LinkedHashMap" "java/util/HashMap" "modCount" "I") ∈ lw_all := lw_g (lw_at lw_m5 24 rfl) rfl
theorem q1147 : (Jvm.Cond.fieldLink "java/util/LinkedHashMap" (68 : Nat) "java/util/LinkedHashMap" "modCount" "I") ∈ lw_all := lw_g (lw_at lw_m5 25 rfl) rfl
theorem q1153 : (Jvm.Cond.fieldLink "java/util/LinkedHashMap" (117 : Nat) "java/util/LinkedHashMap" "keySet" "Ljava/util/Set;") ∈ lw_all := lw_g (lw_at lw_m5 31 rfl) rfl
theorem q1154 : (Jvm.Cond.sameField "java/util/LinkedHashMap" "java/util/AbstractMap" "keySet" "Ljava/util/Set;") ∈ lw_all := lw_g (lw_at lw_m5 32 rfl) rfl
theorem q1155 : (Jvm.Cond.lays "java/util/LinkedHashMap" "java/util/LinkedHashMap" "head" "Ljava/util/LinkedHashMap$Entry;") ∈ lw_all := lw_g (lw_at lw_m5 33 rfl) rfl
theorem q1156 : (Jvm.Cond.soleField "java/util/LinkedHashMap" "head") ∈ lw_all := lw_g (lw_at lw_m5 34 rfl) rfl
theorem q1157 : (Jvm.Cond.lays "java/util/LinkedHashMap" "java/util/LinkedHashMap" "tail" "Ljava/util/LinkedHashMap$Entry;") ∈ lw_all := lw_g (lw_at lw_m5 35 rfl) rfl
theorem q1158 : (Jvm.Cond.soleField "java/util/LinkedHashMap" "tail") ∈ lw_all := lw_g (lw_at lw_m5 36 rfl) rfl
theorem q1159 : (Jvm.Cond.laysFinal "java/util/LinkedHashMap" "java/util/LinkedHashMap" "accessOrder" "Z") ∈ lw_all := lw_g (lw_at lw_m5 37 rfl) rfl
theorem q1160 : (Jvm.Cond.soleField "java/util/LinkedHashMap" "accessOrder") ∈ lw_all := lw_g (lw_at lw_m5 38 rfl) rfl
theorem q1161 : (Jvm.Cond.lays "java/util/LinkedHashMap" "java/util/LinkedHashMap" "putMode" "I") ∈ lw_all := lw_g (lw_at lw_m5 39 rfl) rfl
theorem q1162 : (Jvm.Cond.soleField "java/util/LinkedHashMap" "putMode") ∈ lw_all := lw_g (lw_at lw_m5 40 rfl) rfl
theorem q1163 : (Jvm.Cond.lays "java/util/LinkedHashMap" "java/util/HashMap" "table" "[Ljava/util/HashMap$Node;") ∈ lw_all := lw_g (lw_at lw_m5 41 rfl) rfl
theorem q1165 : (Jvm.Cond.lays "java/util/LinkedHashMap" "java/util/HashMap" "entrySet" "Ljava/util/Set;") ∈ lw_all := lw_g (lw_at lw_m5 43 rfl) rfl
theorem q1167 : (Jvm.Cond.lays "java/util/LinkedHashMap" "java/util/HashMap" "size" "I") ∈ lw_all := lw_g (lw_at lw_m5 45 rfl) rfl
theorem q1169 : (Jvm.Cond.lays "java/util/LinkedHashMap" "java/util/HashMap" "modCount" "I") ∈ lw_all := lw_g (lw_at lw_m5 47 rfl) rfl
theorem q1171 : (Jvm.Cond.lays "java/util/LinkedHashMap" "java/util/HashMap" "threshold" "I") ∈ lw_all := lw_g (lw_at lw_m5 49 rfl) rfl
theorem q1173 : (Jvm.Cond.laysFinal "java/util/LinkedHashMap" "java/util/HashMap" "loadFactor" "F") ∈ lw_all := lw_g (lw_at lw_m5 51 rfl) rfl
theorem q1175 : (Jvm.Cond.lays "java/util/LinkedHashMap" "java/util/AbstractMap" "keySet" "Ljava/util/Set;") ∈ lw_all := lw_g (lw_at lw_m5 53 rfl) rfl
theorem q1177 : (Jvm.Cond.lays "java/util/LinkedHashMap" "java/util/AbstractMap" "values" "Ljava/util/Collection;") ∈ lw_all := lw_g (lw_at lw_m5 55 rfl) rfl
theorem q1179 : (Jvm.Cond.superclass "java/util/LinkedHashMap" "java/util/HashMap") ∈ lw_all := lw_g (lw_at lw_m5 57 rfl) rfl
theorem q1602 : (Jvm.Cond.selects "java/util/LinkedHashMap" ({ cls := "java/util/HashMap", name := "isEmpty", desc := "()Z" } : Jvm.MethodName) ({ cls := "java/util/HashMap", name := "isEmpty", desc := "()Z" } : Jvm.MethodName)) ∈ lw_all := lw_g (lw_at lw_m7 0 rfl) rfl
theorem q1627 : (Jvm.Cond.selects "java/util/LinkedHashMap" ({ cls := "java/util/HashMap", name := "containsKey", desc := "(Ljava/lang/Object;)Z" } : Jvm.MethodName) ({ cls := "java/util/HashMap", name := "containsKey", desc := "(Ljava/lang/Object;)Z" } : Jvm.MethodName)) ∈ lw_all := lw_g (lw_at lw_m7 25 rfl) rfl
theorem q1633 : (Jvm.Cond.selects "java/util/LinkedHashMap" ({ cls := "java/util/HashMap", name := "getNode", desc := "(Ljava/lang/Object;)Ljava/util/HashMap$Node;" } : Jvm.MethodName) ({ cls := "java/util/HashMap", name := "getNode", desc := "(Ljava/lang/Object;)Ljava/util/HashMap$Node;" } : Jvm.MethodName)) ∈ lw_all := lw_g (lw_at lw_m7 31 rfl) rfl
theorem q2537 : (Jvm.Cond.selects "java/util/LinkedHashMap" ({ cls := "java/util/HashMap", name := "keySet", desc := "()Ljava/util/Set;" } : Jvm.MethodName) ({ cls := "java/util/LinkedHashMap", name := "keySet", desc := "()Ljava/util/Set;" } : Jvm.MethodName)) ∈ lw_all := lw_g (lw_at lw_m10 215 rfl) rfl
theorem q2538 : (Jvm.Cond.instanceMethod ({ cls := "java/util/LinkedHashMap", name := "keySet", desc := "()Ljava/util/Set;" } : Jvm.MethodName)) ∈ lw_all := lw_g (lw_at lw_m10 216 rfl) rfl
theorem q2539 : (Jvm.Cond.code ({ cls := "java/util/LinkedHashMap", name := "keySet", desc := "()Ljava/util/Set;" } : Jvm.MethodName) prog_69_method_24_code (1 : Nat) (Option.some (Jvm.ClassFile.FieldType.object "java/util/Set"))) ∈ lw_all := lw_g (lw_at lw_m10 217 rfl) rfl
theorem q2540 : (Jvm.Cond.methodLink "java/util/LinkedHashMap" (113 : Nat) ({ cls := "java/util/LinkedHashMap", name := "sequencedKeySet", desc := "()Ljava/util/SequencedSet;" } : Jvm.MethodName)) ∈ lw_all := lw_g (lw_at lw_m10 218 rfl) rfl
theorem q2541 : (Jvm.Cond.instanceMethod ({ cls := "java/util/LinkedHashMap", name := "sequencedKeySet", desc := "()Ljava/util/SequencedSet;" } : Jvm.MethodName)) ∈ lw_all := lw_g (lw_at lw_m10 219 rfl) rfl
theorem q2542 : (Jvm.Cond.selects "java/util/LinkedHashMap" ({ cls := "java/util/LinkedHashMap", name := "sequencedKeySet", desc := "()Ljava/util/SequencedSet;" } : Jvm.MethodName) ({ cls := "java/util/LinkedHashMap", name := "sequencedKeySet", desc := "()Ljava/util/SequencedSet;" } : Jvm.MethodName)) ∈ lw_all := lw_g (lw_at lw_m10 220 rfl) rfl
theorem q2543 : (Jvm.Cond.code ({ cls := "java/util/LinkedHashMap", name := "sequencedKeySet", desc := "()Ljava/util/SequencedSet;" } : Jvm.MethodName) prog_69_method_25_code (3 : Nat) (Option.some (Jvm.ClassFile.FieldType.object "java/util/SequencedSet"))) ∈ lw_all := lw_g (lw_at lw_m10 221 rfl) rfl
theorem q2544 : (Jvm.Cond.classLink "java/util/LinkedHashMap" (121 : Nat) "java/util/LinkedHashMap$LinkedKeySet") ∈ lw_all := lw_g (lw_at lw_m10 222 rfl) rfl
theorem q2546 : (Jvm.Cond.methodLink "java/util/LinkedHashMap" (123 : Nat) ({ cls := "java/util/LinkedHashMap$LinkedKeySet", name := "<init>", desc := "(Ljava/util/LinkedHashMap;Z)V" } : Jvm.MethodName)) ∈ lw_all := lw_g (lw_at lw_m10 224 rfl) rfl
theorem q2557 : (Jvm.Cond.classLink "java/util/LinkedHashMap" (126 : Nat) "java/util/SequencedSet") ∈ lw_all := lw_g (lw_at lw_m10 235 rfl) rfl
theorem q2608 : (Jvm.Cond.selects "java/util/LinkedHashMap" ({ cls := "java/util/HashMap", name := "put", desc := "(Ljava/lang/Object;Ljava/lang/Object;)Ljava/lang/Object;" } : Jvm.MethodName) ({ cls := "java/util/HashMap", name := "put", desc := "(Ljava/lang/Object;Ljava/lang/Object;)Ljava/lang/Object;" } : Jvm.MethodName)) ∈ lw_all := lw_g (lw_at lw_m11 46 rfl) rfl
theorem q2614 : (Jvm.Cond.selects "java/util/LinkedHashMap" ({ cls := "java/util/HashMap", name := "putVal", desc := "(ILjava/lang/Object;Ljava/lang/Object;ZZ)Ljava/lang/Object;" } : Jvm.MethodName) ({ cls := "java/util/HashMap", name := "putVal", desc := "(ILjava/lang/Object;Ljava/lang/Object;ZZ)Ljava/lang/Object;" } : Jvm.MethodName)) ∈ lw_all := lw_g (lw_at lw_m11 52 rfl) rfl
theorem q2620 : (Jvm.Cond.selects "java/util/LinkedHashMap" ({ cls := "java/util/HashMap", name := "resize", desc := "()[Ljava/util/HashMap$Node;" } : Jvm.MethodName) ({ cls := "java/util/HashMap", name := "resize", desc := "()[Ljava/util/HashMap$Node;" } : Jvm.MethodName)) ∈ lw_all := lw_g (lw_at lw_m11 58 rfl) rfl
theorem q2639 : (Jvm.Cond.selects "java/util/LinkedHashMap" ({ cls := "java/util/HashMap", name := "replacementNode", desc := "(Ljava/util/HashMap$Node;Ljava/util/HashMap$Node;)Ljava/util/HashMap$Node;" } : Jvm.MethodName) ({ cls := "java/util/LinkedHashMap", name := "replacementNode", desc := "(Ljava/util/HashMap$Node;Ljava/util/HashMap$Node;)Ljava/util/HashMap$Node;" } : Jvm.MethodName)) ∈ lw_all := lw_g (lw_at lw_m11 77 rfl) rfl
theorem q2640 : (Jvm.Cond.instanceMethod ({ cls := "java/util/LinkedHashMap", name := "replacementNode", desc := "(Ljava/util/HashMap$Node;Ljava/util/HashMap$Node;)Ljava/util/HashMap$Node;" } : Jvm.MethodName)) ∈ lw_all := lw_g (lw_at lw_m11 78 rfl) rfl
theorem q2641 : (Jvm.Cond.code ({ cls := "java/util/LinkedHashMap", name := "replacementNode", desc := "(Ljava/util/HashMap$Node;Ljava/util/HashMap$Node;)Ljava/util/HashMap$Node;" } : Jvm.MethodName) prog_69_method_5_code (5 : Nat) (Option.some (Jvm.ClassFile.FieldType.object "java/util/HashMap$Node"))) ∈ lw_all := lw_g (lw_at lw_m11 79 rfl) rfl
theorem q2642 : (Jvm.Cond.classLink "java/util/LinkedHashMap" (15 : Nat) "java/util/LinkedHashMap$Entry") ∈ lw_all := lw_g (lw_at lw_m11 80 rfl) rfl
theorem q2644 : (Jvm.Cond.methodLink "java/util/LinkedHashMap" (28 : Nat) ({ cls := "java/util/LinkedHashMap$Entry", name := "<init>", desc := "(ILjava/lang/Object;Ljava/lang/Object;Ljava/util/HashMap$Node;)V" } : Jvm.MethodName)) ∈ lw_all := lw_g (lw_at lw_m11 82 rfl) rfl
theorem q2651 : (Jvm.Cond.fieldLink "java/util/LinkedHashMap" (19 : Nat) "java/util/LinkedHashMap$Entry" "before" "Ljava/util/LinkedHashMap$Entry;") ∈ lw_all := lw_g (lw_at lw_m11 89 rfl) rfl
theorem q2653 : (Jvm.Cond.fieldLink "java/util/LinkedHashMap" (14 : Nat) "java/util/LinkedHashMap$Entry" "after" "Ljava/util/LinkedHashMap$Entry;") ∈ lw_all := lw_g (lw_at lw_m11 91 rfl) rfl
theorem q2658 : (Jvm.Cond.fieldLink "java/util/LinkedHashMap" (36 : Nat) "java/util/LinkedHashMap$Entry" "hash" "I") ∈ lw_all := lw_g (lw_at lw_m11 96 rfl) rfl
theorem q2665 : (Jvm.Cond.fieldLink "java/util/LinkedHashMap" (39 : Nat) "java/util/LinkedHashMap$Entry" "key" "Ljava/lang/Object;") ∈ lw_all := lw_g (lw_at lw_m11 103 rfl) rfl
theorem q2669 : (Jvm.Cond.fieldLink "java/util/LinkedHashMap" (43 : Nat) "java/util/LinkedHashMap$Entry" "value" "Ljava/lang/Object;") ∈ lw_all := lw_g (lw_at lw_m11 107 rfl) rfl
theorem q2672 : (Jvm.Cond.fieldLink "java/util/LinkedHashMap" (107 : Nat) "java/util/HashMap$Node" "value" "Ljava/lang/Object;") ∈ lw_all := lw_g (lw_at lw_m11 110 rfl) rfl
theorem q2693 : (Jvm.Cond.methodLink "java/util/LinkedHashMap" (46 : Nat) ({ cls := "java/util/LinkedHashMap", name := "transferLinks", desc := "(Ljava/util/LinkedHashMap$Entry;Ljava/util/LinkedHashMap$Entry;)V" } : Jvm.MethodName)) ∈ lw_all := lw_g (lw_at lw_m11 131 rfl) rfl
theorem q2694 : (Jvm.Cond.privateMethod ({ cls := "java/util/LinkedHashMap", name := "transferLinks", desc := "(Ljava/util/LinkedHashMap$Entry;Ljava/util/LinkedHashMap$Entry;)V" } : Jvm.MethodName)) ∈ lw_tbl := lw_at lw_m11 132 rfl
theorem q2695 : (Jvm.Cond.instanceMethod ({ cls := "java/util/LinkedHashMap", name := "transferLinks", desc := "(Ljava/util/LinkedHashMap$Entry;Ljava/util/LinkedHashMap$Entry;)V" } : Jvm.MethodName)) ∈ lw_all := lw_g (lw_at lw_m11 133 rfl) rfl
theorem q2696 : (Jvm.Cond.code ({ cls := "java/util/LinkedHashMap", name := "transferLinks", desc := "(Ljava/util/LinkedHashMap$Entry;Ljava/util/LinkedHashMap$Entry;)V" } : Jvm.MethodName) prog_69_method_2_code (5 : Nat) (Option.none : Option Jvm.ClassFile.FieldType)) ∈ lw_all := lw_g (lw_at lw_m11 134 rfl) rfl
theorem q2727 : (Jvm.Cond.selects "java/util/LinkedHashMap" ({ cls := "java/util/HashMap", name := "newNode", desc := "(ILjava/lang/Object;Ljava/lang/Object;Ljava/util/HashMap$Node;)Ljava/util/HashMap$Node;" } : Jvm.MethodName) ({ cls := "java/util/LinkedHashMap", name := "newNode", desc := "(ILjava/lang/Object;Ljava/lang/Object;Ljava/util/HashMap$Node;)Ljava/util/HashMap$Node;" } : Jvm.MethodName)) ∈ lw_all := lw_g (lw_at lw_m11 165 rfl) rfl
theorem q2728 : (Jvm.Cond.instanceMethod ({ cls := "java/util/LinkedHashMap", name := "newNode", desc := "(ILjava/lang/Object;Ljava/lang/Object;Ljava/util/HashMap$Node;)Ljava/util/HashMap$Node;" } : Jvm.MethodName)) ∈ lw_all := lw_g (lw_at lw_m11 166 rfl) rfl
theorem q2729 : (Jvm.Cond.code ({ cls := "java/util/LinkedHashMap", name := "newNode", desc := "(ILjava/lang/Object;Ljava/lang/Object;Ljava/util/HashMap$Node;)Ljava/util/HashMap$Node;" } : Jvm.MethodName) prog_69_method_4_code (6 : Nat) (Option.some (Jvm.ClassFile.FieldType.object "java/util/HashMap$Node"))) ∈ lw_all := lw_g (lw_at lw_m11 167 rfl) rfl
theorem q2730 : (Jvm.Cond.methodLink "java/util/LinkedHashMap" (32 : Nat) ({ cls := "java/util/LinkedHashMap", name := "linkNodeAtEnd", desc := "(Ljava/util/LinkedHashMap$Entry;)V" } : Jvm.MethodName)) ∈ lw_all := lw_g (lw_at lw_m11 168 rfl) rfl
theorem q2731 : (Jvm.Cond.privateMethod ({ cls := "java/util/LinkedHashMap", name := "linkNodeAtEnd", desc := "(Ljava/util/LinkedHashMap$Entry;)V" } : Jvm.MethodName)) ∈ lw_tbl := lw_at lw_m11 169 rfl
theorem q2732 : (Jvm.Cond.instanceMethod ({ cls := "java/util/LinkedHashMap", name := "linkNodeAtEnd", desc := "(Ljava/util/LinkedHashMap$Entry;)V" } : Jvm.MethodName)) ∈ lw_all := lw_g (lw_at lw_m11 170 rfl) rfl
theorem q2733 : (Jvm.Cond.code ({ cls := "java/util/LinkedHashMap", name := "linkNodeAtEnd", desc := "(Ljava/util/LinkedHashMap$Entry;)V" } : Jvm.MethodName) prog_69_method_1_code (3 : Nat) (Option.none : Option Jvm.ClassFile.FieldType)) ∈ lw_all := lw_g (lw_at lw_m11 171 rfl) rfl
theorem q2743 : (Jvm.Cond.selects "java/util/LinkedHashMap" ({ cls := "java/util/HashMap", name := "newTreeNode", desc := "(ILjava/lang/Object;Ljava/lang/Object;Ljava/util/HashMap$Node;)Ljava/util/HashMap$TreeNode;" } : Jvm.MethodName) ({ cls := "java/util/LinkedHashMap", name := "newTreeNode", desc := "(ILjava/lang/Object;Ljava/lang/Object;Ljava/util/HashMap$Node;)Ljava/util/HashMap$TreeNode;" } : Jvm.MethodName)) ∈ lw_all := lw_g (lw_at lw_m11 181 rfl) rfl
theorem q2744 : (Jvm.Cond.instanceMethod ({ cls := "java/util/LinkedHashMap", name := "newTreeNode", desc := "(ILjava/lang/Object;Ljava/lang/Object;Ljava/util/HashMap$Node;)Ljava/util/HashMap$TreeNode;" } : Jvm.MethodName)) ∈ lw_all := lw_g (lw_at lw_m11 182 rfl) rfl
theorem q2745 : (Jvm.Cond.code ({ cls := "java/util/LinkedHashMap", name := "newTreeNode", desc := "(ILjava/lang/Object;Ljava/lang/Object;Ljava/util/HashMap$Node;)Ljava/util/HashMap$TreeNode;" } : Jvm.MethodName) prog_69_method_6_code (6 : Nat) (Option.some (Jvm.ClassFile.FieldType.object "java/util/HashMap$TreeNode"))) ∈ lw_all := lw_g (lw_at lw_m11 183 rfl) rfl
theorem q2746 : (Jvm.Cond.classLink "java/util/LinkedHashMap" (50 : Nat) "java/util/HashMap$TreeNode") ∈ lw_all := lw_g (lw_at lw_m11 184 rfl) rfl
theorem q2748 : (Jvm.Cond.methodLink "java/util/LinkedHashMap" (52 : Nat) ({ cls := "java/util/HashMap$TreeNode", name := "<init>", desc := "(ILjava/lang/Object;Ljava/lang/Object;Ljava/util/HashMap$Node;)V" } : Jvm.MethodName)) ∈ lw_all := lw_g (lw_at lw_m11 186 rfl) rfl
theorem q2781 : (Jvm.Cond.selects "java/util/LinkedHashMap" ({ cls := "java/util/HashMap", name := "treeifyBin", desc := "([Ljava/util/HashMap$Node;I)V" } : Jvm.MethodName) ({ cls := "java/util/HashMap", name := "treeifyBin", desc := "([Ljava/util/HashMap$Node;I)V" } : Jvm.MethodName)) ∈ lw_all := lw_g (lw_at lw_m11 219 rfl) rfl
theorem q2787 : (Jvm.Cond.selects "java/util/LinkedHashMap" ({ cls := "java/util/HashMap", name := "replacementTreeNode", desc := "(Ljava/util/HashMap$Node;Ljava/util/HashMap$Node;)Ljava/util/HashMap$TreeNode;" } : Jvm.MethodName) ({ cls := "java/util/LinkedHashMap", name := "replacementTreeNode", desc := "(Ljava/util/HashMap$Node;Ljava/util/HashMap$Node;)Ljava/util/HashMap$TreeNode;" } : Jvm.MethodName)) ∈ lw_all := lw_g (lw_at lw_m11 225 rfl) rfl
theorem q2788 : (Jvm.Cond.instanceMethod ({ cls := "java/util/LinkedHashMap", name := "replacementTreeNode", desc := "(Ljava/util/HashMap$Node;Ljava/util/HashMap$Node;)Ljava/util/HashMap$TreeNode;" } : Jvm.MethodName)) ∈ lw_all := lw_g (lw_at lw_m11 226 rfl) rfl
theorem q2789 : (Jvm.Cond.code ({ cls := "java/util/LinkedHashMap", name := "replacementTreeNode", desc := "(Ljava/util/HashMap$Node;Ljava/util/HashMap$Node;)Ljava/util/HashMap$TreeNode;" } : Jvm.MethodName) prog_69_method_7_code (5 : Nat) (Option.some (Jvm.ClassFile.FieldType.object "java/util/HashMap$TreeNode"))) ∈ lw_all := lw_g (lw_at lw_m11 227 rfl) rfl
theorem q2796 : (Jvm.Cond.selects "java/util/LinkedHashMap" ({ cls := "java/util/HashMap", name := "afterNodeAccess", desc := "(Ljava/util/HashMap$Node;)V" } : Jvm.MethodName) ({ cls := "java/util/LinkedHashMap", name := "afterNodeAccess", desc := "(Ljava/util/HashMap$Node;)V" } : Jvm.MethodName)) ∈ lw_all := lw_g (lw_at lw_m11 234 rfl) rfl
theorem q2797 : (Jvm.Cond.instanceMethod ({ cls := "java/util/LinkedHashMap", name := "afterNodeAccess", desc := "(Ljava/util/HashMap$Node;)V" } : Jvm.MethodName)) ∈ lw_all := lw_g (lw_at lw_m11 235 rfl) rfl
theorem q2798 : (Jvm.Cond.code ({ cls := "java/util/LinkedHashMap", name := "afterNodeAccess", desc := "(Ljava/util/HashMap$Node;)V" } : Jvm.MethodName) prog_69_method_10_code (7 : Nat) (Option.none : Option Jvm.ClassFile.FieldType)) ∈ lw_all := lw_g (lw_at lw_m11 236 rfl) rfl
theorem q2804 : (Jvm.Cond.selects "java/util/LinkedHashMap" ({ cls := "java/util/HashMap", name := "afterNodeInsertion", desc := "(Z)V" } : Jvm.MethodName) ({ cls := "java/util/LinkedHashMap", name := "afterNodeInsertion", desc := "(Z)V" } : Jvm.MethodName)) ∈ lw_all := lw_g (lw_at lw_m12 2 rfl) rfl
theorem q2805 : (Jvm.Cond.instanceMethod ({ cls := "java/util/LinkedHashMap", name := "afterNodeInsertion", desc := "(Z)V" } : Jvm.MethodName)) ∈ lw_all := lw_g (lw_at lw_m12 3 rfl) rfl
theorem q2806 : (Jvm.Cond.code ({ cls := "java/util/LinkedHashMap", name := "afterNodeInsertion", desc := "(Z)V" } : Jvm.MethodName) prog_69_method_9_code (4 : Nat) (Option.none : Option Jvm.ClassFile.FieldType)) ∈ lw_all := lw_g (lw_at lw_m12 4 rfl) rfl
theorem q2807 : (Jvm.Cond.methodLink "java/util/LinkedHashMap" (53 : Nat) ({ cls := "java/util/LinkedHashMap", name := "removeEldestEntry", desc := "(Ljava/util/Map$Entry;)Z" } : Jvm.MethodName)) ∈ lw_all := lw_g (lw_at lw_m12 5 rfl) rfl
theorem q2808 : (Jvm.Cond.instanceMethod ({ cls := "java/util/LinkedHashMap", name := "removeEldestEntry", desc := "(Ljava/util/Map$Entry;)Z" } : Jvm.MethodName)) ∈ lw_all := lw_g (lw_at lw_m12 6 rfl) rfl
theorem q2809 : (Jvm.Cond.selects "java/util/LinkedHashMap" ({ cls := "java/util/LinkedHashMap", name := "removeEldestEntry", desc := "(Ljava/util/Map$Entry;)Z" } : Jvm.MethodName) ({ cls := "java/util/LinkedHashMap", name := "removeEldestEntry", desc := "(Ljava/util/Map$Entry;)Z" } : Jvm.MethodName)) ∈ lw_all := lw_g (lw_at lw_m12 7 rfl) rfl
theorem q2810 : (Jvm.Cond.code ({ cls := "java/util/LinkedHashMap", name := "removeEldestEntry", desc := "(Ljava/util/Map$Entry;)Z" } : Jvm.MethodName) prog_69_method_23_code (2 : Nat) (Option.some Jvm.ClassFile.FieldType.boolean)) ∈ lw_all := lw_g (lw_at lw_m12 8 rfl) rfl
theorem q2817 : (Jvm.Cond.selects "java/util/LinkedHashMap" ({ cls := "java/util/HashMap", name := "putAll", desc := "(Ljava/util/Map;)V" } : Jvm.MethodName) ({ cls := "java/util/HashMap", name := "putAll", desc := "(Ljava/util/Map;)V" } : Jvm.MethodName)) ∈ lw_all := lw_g (lw_at lw_m12 15 rfl) rfl
theorem q2823 : (Jvm.Cond.selects "java/util/LinkedHashMap" ({ cls := "java/util/HashMap", name := "putMapEntries", desc := "(Ljava/util/Map;Z)V" } : Jvm.MethodName) ({ cls := "java/util/HashMap", name := "putMapEntries", desc := "(Ljava/util/Map;Z)V" } : Jvm.MethodName)) ∈ lw_all := lw_g (lw_at lw_m12 21 rfl) rfl
theorem q2835 : (Jvm.Cond.castable "java/util/LinkedHashMap" "java/util/Map") ∈ lw_tbl := lw_at lw_m12 33 rfl
theorem q2836 : (Jvm.Cond.selects "java/util/LinkedHashMap" ({ cls := "java/util/Map", name := "size", desc := "()I" } : Jvm.MethodName) ({ cls := "java/util/HashMap", name := "size", desc := "()I" } : Jvm.MethodName)) ∈ lw_all := lw_g (lw_at lw_m12 34 rfl) rfl
theorem q2837 : (Jvm.Cond.unhidden "java/util/LinkedHashMap" "size" "()I") ∈ lw_tbl := lw_at lw_m12 35 rfl
theorem q2884 : (Jvm.Cond.selects "java/util/LinkedHashMap" ({ cls := "java/util/Map", name := "entrySet", desc := "()Ljava/util/Set;" } : Jvm.MethodName) ({ cls := "java/util/LinkedHashMap", name := "entrySet", desc := "()Ljava/util/Set;" } : Jvm.MethodName)) ∈ lw_all := lw_g (lw_at lw_m12 82 rfl) rfl
theorem q2885 : (Jvm.Cond.unhidden "java/util/LinkedHashMap" "entrySet" "()Ljava/util/Set;") ∈ lw_tbl := lw_at lw_m12 83 rfl
theorem q2886 : (Jvm.Cond.instanceMethod ({ cls := "java/util/LinkedHashMap", name := "entrySet", desc := "()Ljava/util/Set;" } : Jvm.MethodName)) ∈ lw_all := lw_g (lw_at lw_m12 84 rfl) rfl
theorem q2887 : (Jvm.Cond.publicMethod ({ cls := "java/util/LinkedHashMap", name := "entrySet", desc := "()Ljava/util/Set;" } : Jvm.MethodName)) ∈ lw_tbl := lw_at lw_m12 85 rfl
theorem q2888 : (Jvm.Cond.code ({ cls := "java/util/LinkedHashMap", name := "entrySet", desc := "()Ljava/util/Set;" } : Jvm.MethodName) prog_69_method_32_code (1 : Nat) (Option.some (Jvm.ClassFile.FieldType.object "java/util/Set"))) ∈ lw_all := lw_g (lw_at lw_m12 86 rfl) rfl
theorem q2889 : (Jvm.Cond.methodLink "java/util/LinkedHashMap" (148 : Nat) ({ cls := "java/util/LinkedHashMap", name := "sequencedEntrySet", desc := "()Ljava/util/SequencedSet;" } : Jvm.MethodName)) ∈ lw_all := lw_g (lw_at lw_m12 87 rfl) rfl
theorem q2890 : (Jvm.Cond.instanceMethod ({ cls := "java/util/LinkedHashMap", name := "sequencedEntrySet", desc := "()Ljava/util/SequencedSet;" } : Jvm.MethodName)) ∈ lw_all := lw_g (lw_at lw_m12 88 rfl) rfl
theorem q2891 : (Jvm.Cond.selects "java/util/LinkedHashMap" ({ cls := "java/util/LinkedHashMap", name := "sequencedEntrySet", desc := "()Ljava/util/SequencedSet;" } : Jvm.MethodName) ({ cls := "java/util/LinkedHashMap", name := "sequencedEntrySet", desc := "()Ljava/util/SequencedSet;" } : Jvm.MethodName)) ∈ lw_all := lw_g (lw_at lw_m12 89 rfl) rfl
theorem q2892 : (Jvm.Cond.code ({ cls := "java/util/LinkedHashMap", name := "sequencedEntrySet", desc := "()Ljava/util/SequencedSet;" } : Jvm.MethodName) prog_69_method_33_code (3 : Nat) (Option.some (Jvm.ClassFile.FieldType.object "java/util/SequencedSet"))) ∈ lw_all := lw_g (lw_at lw_m12 90 rfl) rfl
theorem q2893 : (Jvm.Cond.classLink "java/util/LinkedHashMap" (154 : Nat) "java/util/LinkedHashMap$LinkedEntrySet") ∈ lw_all := lw_g (lw_at lw_m12 91 rfl) rfl
theorem q2895 : (Jvm.Cond.methodLink "java/util/LinkedHashMap" (156 : Nat) ({ cls := "java/util/LinkedHashMap$LinkedEntrySet", name := "<init>", desc := "(Ljava/util/LinkedHashMap;Z)V" } : Jvm.MethodName)) ∈ lw_all := lw_g (lw_at lw_m12 93 rfl) rfl
theorem q3354 : (Jvm.Cond.selects "java/util/LinkedHashMap" ({ cls := "java/util/HashMap", name := "clear", desc := "()V" } : Jvm.MethodName) ({ cls := "java/util/LinkedHashMap", name := "clear", desc := "()V" } : Jvm.MethodName)) ∈ lw_all := lw_g (lw_at lw_m14 72 rfl) rfl
theorem q3355 : (Jvm.Cond.instanceMethod ({ cls := "java/util/LinkedHashMap", name := "clear", desc := "()V" } : Jvm.MethodName)) ∈ lw_all := lw_g (lw_at lw_m14 73 rfl) rfl
theorem q3356 : (Jvm.Cond.code ({ cls := "java/util/LinkedHashMap", name := "clear", desc := "()V" } : Jvm.MethodName) prog_69_method_22_code (1 : Nat) (Option.none : Option Jvm.ClassFile.FieldType)) ∈ lw_all := lw_g (lw_at lw_m14 74 rfl) rfl
theorem q3357 : (Jvm.Cond.methodLink "java/util/LinkedHashMap" (110 : Nat) ({ cls := "java/util/HashMap", name := "clear", desc := "()V" } : Jvm.MethodName)) ∈ lw_all := lw_g (lw_at lw_m14 75 rfl) rfl
theorem q3368 : (Jvm.Cond.selects "java/util/LinkedHashMap" ({ cls := "java/util/HashMap", name := "get", desc := "(Ljava/lang/Object;)Ljava/lang/Object;" } : Jvm.MethodName) ({ cls := "java/util/LinkedHashMap", name := "get", desc := "(Ljava/lang/Object;)Ljava/lang/Object;" } : Jvm.MethodName)) ∈ lw_all := lw_g (lw_at lw_m14 86 rfl) rfl
theorem q3369 : (Jvm.Cond.instanceMethod ({ cls := "java/util/LinkedHashMap", name := "get", desc := "(Ljava/lang/Object;)Ljava/lang/Object;" } : Jvm.MethodName)) ∈ lw_all := lw_g (lw_at lw_m14 87 rfl) rfl
theorem q3370 : (Jvm.Cond.code ({ cls := "java/util/LinkedHashMap", name := "get", desc := "(Ljava/lang/Object;)Ljava/lang/Object;" } : Jvm.MethodName) prog_69_method_20_code (3 : Nat) (Option.some (Jvm.ClassFile.FieldType.object "java/lang/Object"))) ∈ lw_all := lw_g (lw_at lw_m14 88 rfl) rfl
theorem q3371 : (Jvm.Cond.methodLink "java/util/LinkedHashMap" (99 : Nat) ({ cls := "java/util/LinkedHashMap", name := "getNode", desc := "(Ljava/lang/Object;)Ljava/util/HashMap$Node;" } : Jvm.MethodName)) ∈ lw_all := lw_g (lw_at lw_m14 89 rfl) rfl
theorem q3372 : (Jvm.Cond.sameMethod "java/util/LinkedHashMap" "java/util/HashMap" "getNode" "(Ljava/lang/Object;)Ljava/util/HashMap$Node;") ∈ lw_all := lw_g (lw_at lw_m14 90 rfl) rfl
theorem q3374 : (Jvm.Cond.selects "java/util/LinkedHashMap" ({ cls := "java/util/LinkedHashMap", name := "getNode", desc := "(Ljava/lang/Object;)Ljava/util/HashMap$Node;" } : Jvm.MethodName) ({ cls := "java/util/HashMap", name := "getNode", desc := "(Ljava/lang/Object;)Ljava/util/HashMap$Node;" } : Jvm.MethodName)) ∈ lw_all := lw_g (lw_at lw_m14 92 rfl) rfl
theorem q3375 : (Jvm.Cond.methodLink "java/util/LinkedHashMap" (103 : Nat) ({ cls := "java/util/LinkedHashMap", name := "afterNodeAccess", desc := "(Ljava/util/HashMap$Node;)V" } : Jvm.MethodName)) ∈ lw_all := lw_g (lw_at lw_m14 93 rfl) rfl
theorem q4591 : (Jvm.Cond.selects "java/util/LinkedHashMap" ({ cls := "java/util/LinkedHashMap", name := "afterNodeAccess", desc := "(Ljava/util/HashMap$Node;)V" } : Jvm.MethodName) ({ cls := "java/util/LinkedHashMap", name := "afterNodeAccess", desc := "(Ljava/util/HashMap$Node;)V" } : Jvm.MethodName)) ∈ lw_all := lw_g (lw_at lw_m19 109 rfl) rfl
theorem q4617 : (Jvm.Cond.castable "java/util/LinkedHashMap" "java/lang/Object") ∈ lw_tbl := lw_at lw_m19 135 rfl
theorem q190 : (Jvm.Cond.initialized "java/lang/Float") ∈ lw_all := lw_g (lw_at lw_m1 28 rfl) rfl
theorem q634 : (Jvm.Cond.static ({ cls := "java/lang/Float", name := "isNaN", desc := "(F)Z" } : Jvm.MethodName)) ∈ lw_all := lw_g (lw_at lw_m2 232 rfl) rfl
theorem q635 : (Jvm.Cond.code ({ cls := "java/lang/Float", name := "isNaN", desc := "(F)Z" } : Jvm.MethodName) prog_25_method_6_code (1 : Nat) (Option.some Jvm.ClassFile.FieldType.boolean)) ∈ lw_all := lw_g (lw_at lw_m2 233 rfl) rfl
theorem q669 : (Jvm.Cond.static ({ cls := "java/lang/Float", name := "floatToRawIntBits", desc := "(F)I" } : Jvm.MethodName)) ∈ lw_all := lw_g (lw_at lw_m3 27 rfl) rfl
theorem q670 : (Jvm.Cond.native ({ cls := "java/lang/Float", name := "floatToRawIntBits", desc := "(F)I" } : Jvm.MethodName)) ∈ lw_all := lw_g (lw_at lw_m3 28 rfl) rfl
theorem q191 : (Jvm.Cond.initialized "jdk/internal/math/FloatToDecimal") ∈ lw_all := lw_g (lw_at lw_m1 29 rfl) rfl
theorem q645 : (Jvm.Cond.static ({ cls := "jdk/internal/math/FloatToDecimal", name := "appendTo", desc := "(FLjava/lang/Appendable;)Ljava/lang/Appendable;" } : Jvm.MethodName)) ∈ lw_all := lw_g (lw_at lw_m3 3 rfl) rfl
theorem q646 : (Jvm.Cond.code ({ cls := "jdk/internal/math/FloatToDecimal", name := "appendTo", desc := "(FLjava/lang/Appendable;)Ljava/lang/Appendable;" } : Jvm.MethodName) prog_88_method_3_code (2 : Nat) (Option.some (Jvm.ClassFile.FieldType.object "java/lang/Appendable"))) ∈ lw_all := lw_g (lw_at lw_m3 4 rfl) rfl
theorem q647 : (Jvm.Cond.classLink "jdk/internal/math/FloatToDecimal" (3 : Nat) "jdk/internal/math/FloatToDecimal") ∈ lw_all := lw_g (lw_at lw_m3 5 rfl) rfl
theorem q648 : (Jvm.Cond.instantiable "jdk/internal/math/FloatToDecimal" (2 : Nat)) ∈ lw_all := lw_g (lw_at lw_m3 6 rfl) rfl
theorem q649 : (Jvm.Cond.methodLink "jdk/internal/math/FloatToDecimal" (15 : Nat) ({ cls := "jdk/internal/math/FloatToDecimal", name := "<init>", desc := "()V" } : Jvm.MethodName)) ∈ lw_all := lw_g (lw_at lw_m3 7 rfl) rfl
theorem q650 : (Jvm.Cond.instanceMethod ({ cls := "jdk/internal/math/FloatToDecimal", name := "<init>", desc := "()V" } : Jvm.MethodName)) ∈ lw_all := lw_g (lw_at lw_m3 8 rfl) rfl
theorem q651 : (Jvm.Cond.code ({ cls := "jdk/internal/math/FloatToDecimal", name := "<init>", desc := "()V" } : Jvm.MethodName) prog_88_method_1_code (1 : Nat) (Option.none : Option Jvm.ClassFile.FieldType)) ∈ lw_all := lw_g (lw_at lw_m3 9 rfl) rfl
theorem q652 : (Jvm.Cond.methodLink "jdk/internal/math/FloatToDecimal" (5 : Nat) ({ cls := "java/lang/Object", name := "<init>", desc := "()V" } : Jvm.MethodName)) ∈ lw_all := lw_g (lw_at lw_m3 10 rfl) rfl
theorem q653 : (Jvm.Cond.fieldLink "jdk/internal/math/FloatToDecimal" (11 : Nat) "jdk/internal/math/FloatToDecimal" "bytes" "[B") ∈ lw_all := lw_g (lw_at lw_m3 11 rfl) rfl
theorem q654 : (Jvm.Cond.fieldLink "jdk/internal/math/FloatToDecimal" (42 : Nat) "jdk/internal/math/FloatToDecimal" "index" "I") ∈ lw_all := lw_g (lw_at lw_m3 12 rfl) rfl
theorem q655 : (Jvm.Cond.laysFinal "jdk/internal/math/FloatToDecimal" "jdk/internal/math/FloatToDecimal" "bytes" "[B") ∈ lw_all := lw_g (lw_at lw_m3 13 rfl) rfl
theorem q656 : (Jvm.Cond.soleField "jdk/internal/math/FloatToDecimal" "bytes") ∈ lw_all := lw_g (lw_at lw_m3 14 rfl) rfl
theorem q657 : (Jvm.Cond.lays "jdk/internal/math/FloatToDecimal" "jdk/internal/math/FloatToDecimal" "index" "I") ∈ lw_all := lw_g (lw_at lw_m3 15 rfl) rfl
theorem q658 : (Jvm.Cond.soleField "jdk/internal/math/FloatToDecimal" "index") ∈ lw_all := lw_g (lw_at lw_m3 16 rfl) rfl
theorem q659 : (Jvm.Cond.superclass "jdk/internal/math/FloatToDecimal" "java/lang/Object") ∈ lw_all := lw_g (lw_at lw_m3 17 rfl) rfl
theorem q660 : (Jvm.Cond.methodLink "jdk/internal/math/FloatToDecimal" (20 : Nat) ({ cls := "jdk/internal/math/FloatToDecimal", name := "appendDecimalTo", desc := "(FLjava/lang/Appendable;)Ljava/lang/Appendable;" } : Jvm.MethodName)) ∈ lw_all := lw_g (lw_at lw_m3 18 rfl) rfl
theorem q661 : (Jvm.Cond.privateMethod ({ cls := "jdk/internal/math/FloatToDecimal", name := "appendDecimalTo", desc := "(FLjava/lang/Appendable;)Ljava/lang/Appendable;" } : Jvm.MethodName)) ∈ lw_tbl := lw_at lw_m3 19 rfl
theorem q662 : (Jvm.Cond.instanceMethod ({ cls := "jdk/internal/math/FloatToDecimal", name := "appendDecimalTo", desc := "(FLjava/lang/Appendable;)Ljava/lang/Appendable;" } : Jvm.MethodName)) ∈ lw_all := lw_g (lw_at lw_m3 20 rfl) rfl
theorem q663 : (Jvm.Cond.code ({ cls := "jdk/internal/math/FloatToDecimal", name := "appendDecimalTo", desc := "(FLjava/lang/Appendable;)Ljava/lang/Appendable;" } : Jvm.MethodName) prog_88_method_5_code (8 : Nat) (Option.some (Jvm.ClassFile.FieldType.object "java/lang/Appendable"))) ∈ lw_all := lw_g (lw_at lw_m3 21 rfl) rfl
theorem q664 : (Jvm.Cond.methodLink "jdk/internal/math/FloatToDecimal" (24 : Nat) ({ cls := "jdk/internal/math/FloatToDecimal", name := "toDecimal", desc := "(F)I" } : Jvm.MethodName)) ∈ lw_all := lw_g (lw_at lw_m3 22 rfl) rfl
theorem q665 : (Jvm.Cond.privateMethod ({ cls := "jdk/internal/math/FloatToDecimal", name := "toDecimal", desc := "(F)I" } : Jvm.MethodName)) ∈ lw_tbl := lw_at lw_m3 23 rfl
theorem q666 : (Jvm.Cond.instanceMethod ({ cls := "jdk/internal/math/FloatToDecimal", name := "toDecimal", desc := "(F)I" } : Jvm.MethodName)) ∈ lw_all := lw_g (lw_at lw_m3 24 rfl) rfl
theorem q667 : (Jvm.Cond.code ({ cls := "jdk/internal/math/FloatToDecimal", name := "toDecimal", desc := "(F)I" } : Jvm.MethodName) prog_88_method_6_code (8 : Nat) (Option.some Jvm.ClassFile.FieldType.int)) ∈ lw_all := lw_g (lw_at lw_m3 25 rfl) rfl
theorem q668 : (Jvm.Cond.methodLink "jdk/internal/math/FloatToDecimal" (65 : Nat) ({ cls := "java/lang/Float", name := "floatToRawIntBits", desc := "(F)I" } : Jvm.MethodName)) ∈ lw_all := lw_g (lw_at lw_m3 26 rfl) rfl
theorem q671 : (Jvm.Cond.constant "jdk/internal/math/FloatToDecimal" (68 : Nat) (8388607 : Int32)) ∈ lw_all := lw_g (lw_at lw_m3 29 rfl) rfl
theorem q672 : (Jvm.Cond.methodLink "jdk/internal/math/FloatToDecimal" (69 : Nat) ({ cls := "jdk/internal/math/FloatToDecimal", name := "append", desc := "(I)V" } : Jvm.MethodName)) ∈ lw_all := lw_g (lw_at lw_m3 30 rfl) rfl
theorem q673 : (Jvm.Cond.privateMethod ({ cls := "jdk/internal/math/FloatToDecimal", name := "append", desc := "(I)V" } : Jvm.MethodName)) ∈ lw_tbl := lw_at lw_m3 31 rfl
theorem q674 : (Jvm.Cond.instanceMethod ({ cls := "jdk/internal/math/FloatToDecimal", name := "append", desc := "(I)V" } : Jvm.MethodName)) ∈ lw_all := lw_g (lw_at lw_m3 32 rfl) rfl
theorem q675 : (Jvm.Cond.code ({ cls := "jdk/internal/math/FloatToDecimal", name := "append", desc := "(I)V" } : Jvm.MethodName) prog_88_method_17_code (2 : Nat) (Option.none : Option Jvm.ClassFile.FieldType)) ∈ lw_all := lw_g (lw_at lw_m3 33 rfl) rfl
theorem q676 : (Jvm.Cond.constant "jdk/internal/math/FloatToDecimal" (72 : Nat) (8388608 : Int32)) ∈ lw_all := lw_g (lw_at lw_m3 34 rfl) rfl
theorem q677 : (Jvm.Cond.methodLink "jdk/internal/math/FloatToDecimal" (73 : Nat) ({ cls := "jdk/internal/math/FloatToDecimal", name := "toChars", desc := "(II)I" } : Jvm.MethodName)) ∈ lw_all := lw_g (lw_at lw_m3 35 rfl) rfl
theorem q678 : (Jvm.Cond.privateMethod ({ cls := "jdk/internal/math/FloatToDecimal", name := "toChars", desc := "(II)I" } : Jvm.MethodName)) ∈ lw_tbl := lw_at lw_m3 36 rfl
theorem q679 : (Jvm.Cond.instanceMethod ({ cls := "jdk/internal/math/FloatToDecimal", name := "toChars", desc := "(II)I" } : Jvm.MethodName)) ∈ lw_all := lw_g (lw_at lw_m3 37 rfl) rfl
theorem q680 : (Jvm.Cond.code ({ cls := "jdk/internal/math/FloatToDecimal", name := "toChars", desc := "(II)I" } : Jvm.MethodName) prog_88_method_9_code (6 : Nat) (Option.some Jvm.ClassFile.FieldType.int)) ∈ lw_all := lw_g (lw_at lw_m3 38 rfl) rfl
theorem q681 : (Jvm.Cond.methodLink "jdk/internal/math/FloatToDecimal" (114 : Nat) ({ cls := "java/lang/Integer", name := "numberOfLeadingZeros", desc := "(I)I" } : Jvm.MethodName)) ∈ lw_all := lw_g (lw_at lw_m3 39 rfl) rfl
theorem q685 : (Jvm.Cond.methodLink "jdk/internal/math/FloatToDecimal" (82 : Nat) ({ cls := "jdk/internal/math/MathUtils", name := "flog10pow2", desc := "(I)I" } : Jvm.MethodName)) ∈ lw_all := lw_g (lw_at lw_m3 43 rfl) rfl
theorem q689 : (Jvm.Cond.methodLink "jdk/internal/math/FloatToDecimal" (117 : Nat) ({ cls := "jdk/internal/math/MathUtils", name := "pow10", desc := "(I)J" } : Jvm.MethodName)) ∈ lw_all := lw_g (lw_at lw_m3 47 rfl) rfl
theorem q694 : (Jvm.Cond.constantLong "jdk/internal/math/FloatToDecimal" (120 : Nat) (1441151881 : Int64)) ∈ lw_all := lw_g (lw_at lw_m3 52 rfl) rfl
theorem q695 : (Jvm.Cond.constant "jdk/internal/math/FloatToDecimal" (122 : Nat) (100000000 : Int32)) ∈ lw_all := lw_g (lw_at lw_m3 53 rfl) rfl
theorem q696 : (Jvm.Cond.methodLink "jdk/internal/math/FloatToDecimal" (123 : Nat) ({ cls := "jdk/internal/math/FloatToDecimal", name := "toChars1", desc := "(III)I" } : Jvm.MethodName)) ∈ lw_all := lw_g (lw_at lw_m3 54 rfl) rfl
theorem q697 : (Jvm.Cond.privateMethod ({ cls := "jdk/internal/math/FloatToDecimal", name := "toChars1", desc := "(III)I" } : Jvm.MethodName)) ∈ lw_tbl := lw_at lw_m3 55 rfl
theorem q698 : (Jvm.Cond.instanceMethod ({ cls := "jdk/internal/math/FloatToDecimal", name := "toChars1", desc := "(III)I" } : Jvm.MethodName)) ∈ lw_all := lw_g (lw_at lw_m3 56 rfl) rfl
theorem q699 : (Jvm.Cond.code ({ cls := "jdk/internal/math/FloatToDecimal", name := "toChars1", desc := "(III)I" } : Jvm.MethodName) prog_88_method_10_code (7 : Nat) (Option.some Jvm.ClassFile.FieldType.int)) ∈ lw_all := lw_g (lw_at lw_m3 57 rfl) rfl
theorem q700 : (Jvm.Cond.methodLink "jdk/internal/math/FloatToDecimal" (132 : Nat) ({ cls := "jdk/internal/math/FloatToDecimal", name := "appendDigit", desc := "(I)V" } : Jvm.MethodName)) ∈ lw_all := lw_g (lw_at lw_m3 58 rfl) rfl
theorem q701 : (Jvm.Cond.privateMethod ({ cls := "jdk/internal/math/FloatToDecimal", name := "appendDigit", desc := "(I)V" } : Jvm.MethodName)) ∈ lw_tbl := lw_at lw_m3 59 rfl
theorem q702 : (Jvm.Cond.instanceMethod ({ cls := "jdk/internal/math/FloatToDecimal", name := "appendDigit", desc := "(I)V" } : Jvm.MethodName)) ∈ lw_all := lw_g (lw_at lw_m3 60 rfl) rfl
theorem q703 : (Jvm.Cond.code ({ cls := "jdk/internal/math/FloatToDecimal", name := "appendDigit", desc := "(I)V" } : Jvm.MethodName) prog_88_method_18_code (2 : Nat) (Option.none : Option Jvm.ClassFile.FieldType)) ∈ lw_all := lw_g (lw_at lw_m3 61 rfl) rfl
theorem q704 : (Jvm.Cond.methodLink "jdk/internal/math/FloatToDecimal" (135 : Nat) ({ cls := "jdk/internal/math/FloatToDecimal", name := "y", desc := "(I)I" } : Jvm.MethodName)) ∈ lw_all := lw_g (lw_at lw_m3 62 rfl) rfl
theorem q705 : (Jvm.Cond.privateMethod ({ cls := "jdk/internal/math/FloatToDecimal", name := "y", desc := "(I)I" } : Jvm.MethodName)) ∈ lw_tbl := lw_at lw_m3 63 rfl
theorem q706 : (Jvm.Cond.instanceMethod ({ cls := "jdk/internal/math/FloatToDecimal", name := "y", desc := "(I)I" } : Jvm.MethodName)) ∈ lw_all := lw_g (lw_at lw_m3 64 rfl) rfl
theorem q707 : (Jvm.Cond.code ({ cls := "jdk/internal/math/FloatToDecimal", name := "y", desc := "(I)I" } : Jvm.MethodName) prog_88_method_15_code (2 : Nat) (Option.some Jvm.ClassFile.FieldType.int)) ∈ lw_all := lw_g (lw_at lw_m3 65 rfl) rfl
theorem q708 : (Jvm.Cond.constantLong "jdk/internal/math/FloatToDecimal" (148 : Nat) (193428131138340668 : Int64)) ∈ lw_all := lw_g (lw_at lw_m3 66 rfl) rfl
theorem q709 : (Jvm.Cond.methodLink "jdk/internal/math/FloatToDecimal" (104 : Nat) ({ cls := "java/lang/Math", name := "multiplyHigh", desc := "(JJ)J" } : Jvm.MethodName)) ∈ lw_all := lw_g (lw_at lw_m3 67 rfl) rfl
theorem q713 : (Jvm.Cond.constant "jdk/internal/math/FloatToDecimal" (138 : Nat) (268435455 : Int32)) ∈ lw_all := lw_g (lw_at lw_m3 71 rfl) rfl
theorem q714 : (Jvm.Cond.methodLink "jdk/internal/math/FloatToDecimal" (139 : Nat) ({ cls := "jdk/internal/math/FloatToDecimal", name := "removeTrailingZeroes", desc := "()V" } : Jvm.MethodName)) ∈ lw_all := lw_g (lw_at lw_m3 72 rfl) rfl
theorem q715 : (Jvm.Cond.privateMethod ({ cls := "jdk/internal/math/FloatToDecimal", name := "removeTrailingZeroes", desc := "()V" } : Jvm.MethodName)) ∈ lw_tbl := lw_at lw_m3 73 rfl
theorem q716 : (Jvm.Cond.instanceMethod ({ cls := "jdk/internal/math/FloatToDecimal", name := "removeTrailingZeroes", desc := "()V" } : Jvm.MethodName)) ∈ lw_all := lw_g (lw_at lw_m3 74 rfl) rfl
theorem q717 : (Jvm.Cond.code ({ cls := "jdk/internal/math/FloatToDecimal", name := "removeTrailingZeroes", desc := "()V" } : Jvm.MethodName) prog_88_method_14_code (1 : Nat) (Option.none : Option Jvm.ClassFile.FieldType)) ∈ lw_all := lw_g (lw_at lw_m3 75 rfl) rfl
theorem q718 : (Jvm.Cond.methodLink "jdk/internal/math/FloatToDecimal" (126 : Nat) ({ cls := "jdk/internal/math/FloatToDecimal", name := "toChars2", desc := "(III)I" } : Jvm.MethodName)) ∈ lw_all := lw_g (lw_at lw_m3 76 rfl) rfl
theorem q719 : (Jvm.Cond.privateMethod ({ cls := "jdk/internal/math/FloatToDecimal", name := "toChars2", desc := "(III)I" } : Jvm.MethodName)) ∈ lw_tbl := lw_at lw_m3 77 rfl
theorem q720 : (Jvm.Cond.instanceMethod ({ cls := "jdk/internal/math/FloatToDecimal", name := "toChars2", desc := "(III)I" } : Jvm.MethodName)) ∈ lw_all := lw_g (lw_at lw_m3 78 rfl) rfl
theorem q721 : (Jvm.Cond.code ({ cls := "jdk/internal/math/FloatToDecimal", name := "toChars2", desc := "(III)I" } : Jvm.MethodName) prog_88_method_11_code (4 : Nat) (Option.some Jvm.ClassFile.FieldType.int)) ∈ lw_all := lw_g (lw_at lw_m3 79 rfl) rfl
theorem q722 : (Jvm.Cond.methodLink "jdk/internal/math/FloatToDecimal" (142 : Nat) ({ cls := "jdk/internal/math/FloatToDecimal", name := "append8Digits", desc := "(I)V" } : Jvm.MethodName)) ∈ lw_all := lw_g (lw_at lw_m3 80 rfl) rfl
theorem q723 : (Jvm.Cond.privateMethod ({ cls := "jdk/internal/math/FloatToDecimal", name := "append8Digits", desc := "(I)V" } : Jvm.MethodName)) ∈ lw_tbl := lw_at lw_m3 81 rfl
theorem q724 : (Jvm.Cond.instanceMethod ({ cls := "jdk/internal/math/FloatToDecimal", name := "append8Digits", desc := "(I)V" } : Jvm.MethodName)) ∈ lw_all := lw_g (lw_at lw_m3 82 rfl) rfl
theorem q725 : (Jvm.Cond.code ({ cls := "jdk/internal/math/FloatToDecimal", name := "append8Digits", desc := "(I)V" } : Jvm.MethodName) prog_88_method_13_code (5 : Nat) (Option.none : Option Jvm.ClassFile.FieldType)) ∈ lw_all := lw_g (lw_at lw_m3 83 rfl) rfl
theorem q726 : (Jvm.Cond.methodLink "jdk/internal/math/FloatToDecimal" (129 : Nat) ({ cls := "jdk/internal/math/FloatToDecimal", name := "toChars3", desc := "(III)I" } : Jvm.MethodName)) ∈ lw_all := lw_g (lw_at lw_m3 84 rfl) rfl
theorem q727 : (Jvm.Cond.privateMethod ({ cls := "jdk/internal/math/FloatToDecimal", name := "toChars3", desc := "(III)I" } : Jvm.MethodName)) ∈ lw_tbl := lw_at lw_m3 85 rfl
theorem q728 : (Jvm.Cond.instanceMethod ({ cls := "jdk/internal/math/FloatToDecimal", name := "toChars3", desc := "(III)I" } : Jvm.MethodName)) ∈ lw_all := lw_g (lw_at lw_m3 86 rfl) rfl
theorem q729 : (Jvm.Cond.code ({ cls := "jdk/internal/math/FloatToDecimal", name := "toChars3", desc := "(III)I" } : Jvm.MethodName) prog_88_method_12_code (4 : Nat) (Option.some Jvm.ClassFile.FieldType.int)) ∈ lw_all := lw_g (lw_at lw_m3 87 rfl) rfl
theorem q730 : (Jvm.Cond.methodLink "jdk/internal/math/FloatToDecimal" (145 : Nat) ({ cls := "jdk/internal/math/FloatToDecimal", name := "exponent", desc := "(I)V" } : Jvm.MethodName)) ∈ lw_all := lw_g (lw_at lw_m3 88 rfl) rfl
theorem q731 : (Jvm.Cond.privateMethod ({ cls := "jdk/internal/math/FloatToDecimal", name := "exponent", desc := "(I)V" } : Jvm.MethodName)) ∈ lw_tbl := lw_at lw_m3 89 rfl
theorem q732 : (Jvm.Cond.instanceMethod ({ cls := "jdk/internal/math/FloatToDecimal", name := "exponent", desc := "(I)V" } : Jvm.MethodName)) ∈ lw_all := lw_g (lw_at lw_m3 90 rfl) rfl
theorem q733 : (Jvm.Cond.code ({ cls := "jdk/internal/math/FloatToDecimal", name := "exponent", desc := "(I)V" } : Jvm.MethodName) prog_88_method_16_code (3 : Nat) (Option.none : Option Jvm.ClassFile.FieldType)) ∈ lw_all := lw_g (lw_at lw_m3 91 rfl) rfl
theorem q734 : (Jvm.Cond.methodLink "jdk/internal/math/FloatToDecimal" (77 : Nat) ({ cls := "jdk/internal/math/FloatToDecimal", name := "toDecimal", desc := "(III)I" } : Jvm.MethodName)) ∈ lw_all := lw_g (lw_at lw_m3 92 rfl) rfl
theorem q735 : (Jvm.Cond.privateMethod ({ cls := "jdk/internal/math/FloatToDecimal", name := "toDecimal", desc := "(III)I" } : Jvm.MethodName)) ∈ lw_tbl := lw_at lw_m3 93 rfl
theorem q736 : (Jvm.Cond.instanceMethod ({ cls := "jdk/internal/math/FloatToDecimal", name := "toDecimal", desc := "(III)I" } : Jvm.MethodName)) ∈ lw_all := lw_g (lw_at lw_m3 94 rfl) rfl
theorem q737 : (Jvm.Cond.code ({ cls := "jdk/internal/math/FloatToDecimal", name := "toDecimal", desc := "(III)I" } : Jvm.MethodName) prog_88_method_7_code (23 : Nat) (Option.some Jvm.ClassFile.FieldType.int)) ∈ lw_all := lw_g (lw_at lw_m3 95 rfl) rfl
theorem q738 : (Jvm.Cond.constantLong "jdk/internal/math/FloatToDecimal" (80 : Nat) (2 : Int64)) ∈ lw_all := lw_g (lw_at lw_m3 96 rfl) rfl
theorem q739 : (Jvm.Cond.methodLink "jdk/internal/math/FloatToDecimal" (88 : Nat) ({ cls := "jdk/internal/math/MathUtils", name := "flog10threeQuartersPow2", desc := "(I)I" } : Jvm.MethodName)) ∈ lw_all := lw_g (lw_at lw_m3 97 rfl) rfl
theorem q743 : (Jvm.Cond.methodLink "jdk/internal/math/FloatToDecimal" (91 : Nat) ({ cls := "jdk/internal/math/MathUtils", name := "flog2pow10", desc := "(I)I" } : Jvm.MethodName)) ∈ lw_all := lw_g (lw_at lw_m3 101 rfl) rfl
theorem q747 : (Jvm.Cond.methodLink "jdk/internal/math/FloatToDecimal" (94 : Nat) ({ cls := "jdk/internal/math/MathUtils", name := "g1", desc := "(I)J" } : Jvm.MethodName)) ∈ lw_all := lw_g (lw_at lw_m3 105 rfl) rfl
theorem q752 : (Jvm.Cond.methodLink "jdk/internal/math/FloatToDecimal" (98 : Nat) ({ cls := "jdk/internal/math/FloatToDecimal", name := "rop", desc := "(JJ)I" } : Jvm.MethodName)) ∈ lw_all := lw_g (lw_at lw_m3 110 rfl) rfl
theorem q753 : (Jvm.Cond.static ({ cls := "jdk/internal/math/FloatToDecimal", name := "rop", desc := "(JJ)I" } : Jvm.MethodName)) ∈ lw_all := lw_g (lw_at lw_m3 111 rfl) rfl
theorem q754 : (Jvm.Cond.code ({ cls := "jdk/internal/math/FloatToDecimal", name := "rop", desc := "(JJ)I" } : Jvm.MethodName) prog_88_method_8_code (8 : Nat) (Option.some Jvm.ClassFile.FieldType.int)) ∈ lw_all := lw_g (lw_at lw_m3 112 rfl) rfl
theorem q755 : (Jvm.Cond.constantLong "jdk/internal/math/FloatToDecimal" (110 : Nat) (4294967295 : Int64)) ∈ lw_all := lw_g (lw_at lw_m3 113 rfl) rfl
theorem q756 : (Jvm.Cond.constantLong "jdk/internal/math/FloatToDecimal" (102 : Nat) (1717986919 : Int64)) ∈ lw_all := lw_g (lw_at lw_m3 114 rfl) rfl
theorem q757 : (Jvm.Cond.classLink "jdk/internal/math/FloatToDecimal" (46 : Nat) "java/lang/StringBuilder") ∈ lw_all := lw_g (lw_at lw_m3 115 rfl) rfl
theorem q758 : (Jvm.Cond.methodLink "jdk/internal/math/FloatToDecimal" (48 : Nat) ({ cls := "java/lang/StringBuilder", name := "append", desc := "([C)Ljava/lang/StringBuilder;" } : Jvm.MethodName)) ∈ lw_all := lw_g (lw_at lw_m3 116 rfl) rfl
theorem q778 : (Jvm.Cond.classLink "jdk/internal/math/FloatToDecimal" (52 : Nat) "java/lang/StringBuffer") ∈ lw_all := lw_g (lw_at lw_m3 136 rfl) rfl
theorem q779 : (Jvm.Cond.methodLink "jdk/internal/math/FloatToDecimal" (54 : Nat) ({ cls := "java/lang/StringBuffer", name := "append", desc := "([C)Ljava/lang/StringBuffer;" } : Jvm.MethodName)) ∈ lw_all := lw_g (lw_at lw_m3 137 rfl) rfl
theorem q785 : (Jvm.Cond.interfaceEntry "jdk/internal/math/FloatToDecimal" (57 : Nat)) ∈ lw_tbl := lw_at lw_m3 143 rfl
theorem q786 : (Jvm.Cond.methodLink "jdk/internal/math/FloatToDecimal" (57 : Nat) ({ cls := "java/lang/Appendable", name := "append", desc := "(C)Ljava/lang/Appendable;" } : Jvm.MethodName)) ∈ lw_all := lw_g (lw_at lw_m3 144 rfl) rfl
theorem q814 : (Jvm.Cond.stringRef "jdk/internal/math/FloatToDecimal" (32 : Nat) "0.0") ∈ lw_tbl := lw_at lw_m3 172 rfl
theorem q815 : (Jvm.Cond.interfaceEntry "jdk/internal/math/FloatToDecimal" (62 : Nat)) ∈ lw_tbl := lw_at lw_m3 173 rfl
theorem q816 : (Jvm.Cond.methodLink "jdk/internal/math/FloatToDecimal" (62 : Nat) ({ cls := "java/lang/Appendable", name := "append", desc := "(Ljava/lang/CharSequence;)Ljava/lang/Appendable;" } : Jvm.MethodName)) ∈ lw_all := lw_g (lw_at lw_m3 174 rfl) rfl
theorem q937 : (Jvm.Cond.stringRef "jdk/internal/math/FloatToDecimal" (34 : Nat) "-0.0") ∈ lw_tbl := lw_at lw_m4 55 rfl
theorem q938 : (Jvm.Cond.stringRef "jdk/internal/math/FloatToDecimal" (36 : Nat) "Infinity") ∈ lw_tbl := lw_at lw_m4 56 rfl
theorem q939 : (Jvm.Cond.stringRef "jdk/internal/math/FloatToDecimal" (38 : Nat) "-Infinity") ∈ lw_tbl := lw_at lw_m4 57 rfl
theorem q940 : (Jvm.Cond.stringRef "jdk/internal/math/FloatToDecimal" (40 : Nat) "NaN") ∈ lw_tbl := lw_at lw_m4 58 rfl
theorem q1011 : (Jvm.Cond.selects "jdk/internal/math/FloatToDecimal" ({ cls := "java/lang/Object", name := "getClass", desc := "()Ljava/lang/Class;" } : Jvm.MethodName) ({ cls := "java/lang/Object", name := "getClass", desc := "()Ljava/lang/Class;" } : Jvm.MethodName)) ∈ lw_all := lw_g (lw_at lw_m4 129 rfl) rfl
theorem q1073 : (Jvm.Cond.selects "jdk/internal/math/FloatToDecimal" ({ cls := "java/lang/Object", name := "toString", desc := "()Ljava/lang/String;" } : Jvm.MethodName) ({ cls := "java/lang/Object", name := "toString", desc := "()Ljava/lang/String;" } : Jvm.MethodName)) ∈ lw_all := lw_g (lw_at lw_m4 191 rfl) rfl
theorem q1729 : (Jvm.Cond.selects "jdk/internal/math/FloatToDecimal" ({ cls := "java/lang/Object", name := "hashCode", desc := "()I" } : Jvm.MethodName) ({ cls := "java/lang/Object", name := "hashCode", desc := "()I" } : Jvm.MethodName)) ∈ lw_all := lw_g (lw_at lw_m7 127 rfl) rfl
theorem q1768 : (Jvm.Cond.selects "jdk/internal/math/FloatToDecimal" ({ cls := "java/lang/Object", name := "equals", desc := "(Ljava/lang/Object;)Z" } : Jvm.MethodName) ({ cls := "java/lang/Object", name := "equals", desc := "(Ljava/lang/Object;)Z" } : Jvm.MethodName)) ∈ lw_all := lw_g (lw_at lw_m7 166 rfl) rfl
theorem q4618 : (Jvm.Cond.castable "jdk/internal/math/FloatToDecimal" "java/lang/Object") ∈ lw_tbl := lw_at lw_m19 136 rfl
theorem q192 : (Jvm.Cond.initialized "jdk/internal/math/MathUtils") ∈ lw_all := lw_g (lw_at lw_m1 30 rfl) rfl
theorem q686 : (Jvm.Cond.static ({ cls := "jdk/internal/math/MathUtils", name := "flog10pow2", desc := "(I)I" } : Jvm.MethodName)) ∈ lw_all := lw_g (lw_at lw_m3 44 rfl) rfl
theorem q687 : (Jvm.Cond.code ({ cls := "jdk/internal/math/MathUtils", name := "flog10pow2", desc := "(I)I" } : Jvm.MethodName) prog_89_method_3_code (1 : Nat) (Option.some Jvm.ClassFile.FieldType.int)) ∈ lw_all := lw_g (lw_at lw_m3 45 rfl) rfl
theorem q688 : (Jvm.Cond.constantLong "jdk/internal/math/MathUtils" (20 : Nat) (661971961083 : Int64)) ∈ lw_all := lw_g (lw_at lw_m3 46 rfl) rfl
theorem q690 : (Jvm.Cond.static ({ cls := "jdk/internal/math/MathUtils", name := "pow10", desc := "(I)J" } : Jvm.MethodName)) ∈ lw_all := lw_g (lw_at lw_m3 48 rfl) rfl
theorem q691 : (Jvm.Cond.code ({ cls := "jdk/internal/math/MathUtils", name := "pow10", desc := "(I)J" } : Jvm.MethodName) prog_89_method_2_code (1 : Nat) (Option.some Jvm.ClassFile.FieldType.long)) ∈ lw_all := lw_g (lw_at lw_m3 49 rfl) rfl
theorem q692 : (Jvm.Cond.fieldLink "jdk/internal/math/MathUtils" (14 : Nat) "jdk/internal/math/MathUtils" "pow10" "[J") ∈ lw_all := lw_g (lw_at lw_m3 50 rfl) rfl
theorem q693 : (Jvm.Cond.laysStatic "jdk/internal/math/MathUtils" "pow10" "[J") ∈ lw_tbl := lw_at lw_m3 51 rfl
theorem q740 : (Jvm.Cond.static ({ cls := "jdk/internal/math/MathUtils", name := "flog10threeQuartersPow2", desc := "(I)I" } : Jvm.MethodName)) ∈ lw_all := lw_g (lw_at lw_m3 98 rfl) rfl
theorem q741 : (Jvm.Cond.code ({ cls := "jdk/internal/math/MathUtils", name := "flog10threeQuartersPow2", desc := "(I)I" } : Jvm.MethodName) prog_89_method_4_code (1 : Nat) (Option.some Jvm.ClassFile.FieldType.int)) ∈ lw_all := lw_g (lw_at lw_m3 99 rfl) rfl
theorem q742 : (Jvm.Cond.constantLong "jdk/internal/math/MathUtils" (22 : Nat) (-274743187321 : Int64)) ∈ lw_all := lw_g (lw_at lw_m3 100 rfl) rfl
theorem q744 : (Jvm.Cond.static ({ cls := "jdk/internal/math/MathUtils", name := "flog2pow10", desc := "(I)I" } : Jvm.MethodName)) ∈ lw_all := lw_g (lw_at lw_m3 102 rfl) rfl
theorem q745 : (Jvm.Cond.code ({ cls := "jdk/internal/math/MathUtils", name := "flog2pow10", desc := "(I)I" } : Jvm.MethodName) prog_89_method_5_code (1 : Nat) (Option.some Jvm.ClassFile.FieldType.int)) ∈ lw_all := lw_g (lw_at lw_m3 103 rfl) rfl
theorem q746 : (Jvm.Cond.constantLong "jdk/internal/math/MathUtils" (24 : Nat) (913124641741 : Int64)) ∈ lw_all := lw_g (lw_at lw_m3 104 rfl) rfl
theorem q748 : (Jvm.Cond.static ({ cls := "jdk/internal/math/MathUtils", name := "g1", desc := "(I)J" } : Jvm.MethodName)) ∈ lw_all := lw_g (lw_at lw_m3 106 rfl) rfl
theorem q749 : (Jvm.Cond.code ({ cls := "jdk/internal/math/MathUtils", name := "g1", desc := "(I)J" } : Jvm.MethodName) prog_89_method_6_code (1 : Nat) (Option.some Jvm.ClassFile.FieldType.long)) ∈ lw_all := lw_g (lw_at lw_m3 107 rfl) rfl
theorem q750 : (Jvm.Cond.fieldLink "jdk/internal/math/MathUtils" (26 : Nat) "jdk/internal/math/MathUtils" "g" "[J") ∈ lw_all := lw_g (lw_at lw_m3 108 rfl) rfl
theorem q751 : (Jvm.Cond.laysStatic "jdk/internal/math/MathUtils" "g" "[J") ∈ lw_tbl := lw_at lw_m3 109 rfl
theorem q193 : (Jvm.Cond.initialized "java/lang/Error") ∈ lw_all := lw_g (lw_at lw_m1 31 rfl) rfl
theorem q944 : (Jvm.Cond.declares ({ cls := "java/lang/Error", name := "<init>", desc := "()V" } : Jvm.MethodName)) ∈ lw_tbl := lw_at lw_m4 62 rfl
theorem q945 : (Jvm.Cond.declares ({ cls := "java/lang/Error", name := "<init>", desc := "(Ljava/lang/String;)V" } : Jvm.MethodName)) ∈ lw_tbl := lw_at lw_m4 63 rfl
theorem q1079 : (Jvm.Cond.instanceMethod ({ cls := "java/lang/Error", name := "<init>", desc := "(Ljava/lang/String;)V" } : Jvm.MethodName)) ∈ lw_all := lw_g (lw_at lw_m4 197 rfl) rfl
theorem q1080 : (Jvm.Cond.code ({ cls := "java/lang/Error", name := "<init>", desc := "(Ljava/lang/String;)V" } : Jvm.MethodName) prog_23_method_2_code (2 : Nat) (Option.none : Option Jvm.ClassFile.FieldType)) ∈ lw_all := lw_g (lw_at lw_m4 198 rfl) rfl
theorem q1081 : (Jvm.Cond.methodLink "java/lang/Error" (7 : Nat) ({ cls := "java/lang/Throwable", name := "<init>", desc := "(Ljava/lang/String;)V" } : Jvm.MethodName)) ∈ lw_all := lw_g (lw_at lw_m4 199 rfl) rfl
theorem q194 : (Jvm.Cond.initialized "java/lang/AssertionError") ∈ lw_all := lw_g (lw_at lw_m1 32 rfl) rfl
theorem q299 : (Jvm.Cond.selects "java/lang/AssertionError" ({ cls := "java/lang/Throwable", name := "fillInStackTrace", desc := "()Ljava/lang/Throwable;" } : Jvm.MethodName) ({ cls := "java/lang/Throwable", name := "fillInStackTrace", desc := "()Ljava/lang/Throwable;" } : Jvm.MethodName)) ∈ lw_all := lw_g (lw_at lw_m1 137 rfl) rfl
theorem q942 : (Jvm.Cond.instantiable "java/lang/AssertionError" (6 : Nat)) ∈ lw_all := lw_g (lw_at lw_m4 60 rfl) rfl
theorem q943 : (Jvm.Cond.castable "java/lang/AssertionError" "java/lang/AssertionError") ∈ lw_tbl := lw_at lw_m4 61 rfl
theorem q946 : (Jvm.Cond.selects "java/lang/AssertionError" ({ cls := "java/lang/Throwable", name := "fillInStackTrace", desc := "(I)Ljava/lang/Throwable;" } : Jvm.MethodName) ({ cls := "java/lang/Throwable", name := "fillInStackTrace", desc := "(I)Ljava/lang/Throwable;" } : Jvm.MethodName)) ∈ lw_all := lw_g (lw_at lw_m4 64 rfl) rfl
theorem q947 : (Jvm.Cond.lays "java/lang/AssertionError" "java/lang/Throwable" "cause" "Ljava/lang/Throwable;") ∈ lw_all := lw_g (lw_at lw_m4 65 rfl) rfl
theorem q948 : (Jvm.Cond.lays "java/lang/AssertionError" "java/lang/Throwable" "stackTrace" "[Ljava/lang/StackTraceElement;") ∈ lw_all := lw_g (lw_at lw_m4 66 rfl) rfl
theorem q949 : (Jvm.Cond.lays "java/lang/AssertionError" "java/lang/Throwable" "suppressedExceptions" "Ljava/util/List;") ∈ lw_all := lw_g (lw_at lw_m4 67 rfl) rfl
theorem q950 : (Jvm.Cond.lays "java/lang/AssertionError" "java/lang/Throwable" "detailMessage" "Ljava/lang/String;") ∈ lw_all := lw_g (lw_at lw_m4 68 rfl) rfl
theorem q951 : (Jvm.Cond.lays "java/lang/AssertionError" "java/lang/Throwable" "backtrace" "Ljava/lang/Object;") ∈ lw_all := lw_g (lw_at lw_m4 69 rfl) rfl
theorem q953 : (Jvm.Cond.instanceMethod ({ cls := "java/lang/AssertionError", name := "<init>", desc := "(Ljava/lang/Object;)V" } : Jvm.MethodName)) ∈ lw_all := lw_g (lw_at lw_m4 71 rfl) rfl
theorem q954 : (Jvm.Cond.code ({ cls := "java/lang/AssertionError", name := "<init>", desc := "(Ljava/lang/Object;)V" } : Jvm.MethodName) prog_17_method_3_code (2 : Nat) (Option.none : Option Jvm.ClassFile.FieldType)) ∈ lw_all := lw_g (lw_at lw_m4 72 rfl) rfl
theorem q955 : (Jvm.Cond.methodLink "java/lang/AssertionError" (10 : Nat) ({ cls := "java/lang/String", name := "valueOf", desc := "(Ljava/lang/Object;)Ljava/lang/String;" } : Jvm.MethodName)) ∈ lw_all := lw_g (lw_at lw_m4 73 rfl) rfl
theorem q984 : (Jvm.Cond.selects "java/lang/AssertionError" ({ cls := "java/lang/Object", name := "getClass", desc := "()Ljava/lang/Class;" } : Jvm.MethodName) ({ cls := "java/lang/Object", name := "getClass", desc := "()Ljava/lang/Class;" } : Jvm.MethodName)) ∈ lw_all := lw_g (lw_at lw_m4 102 rfl) rfl
theorem q1019 : (Jvm.Cond.selects "java/lang/AssertionError" ({ cls := "java/lang/Throwable", name := "getLocalizedMessage", desc := "()Ljava/lang/String;" } : Jvm.MethodName) ({ cls := "java/lang/Throwable", name := "getLocalizedMessage", desc := "()Ljava/lang/String;" } : Jvm.MethodName)) ∈ lw_all := lw_g (lw_at lw_m4 137 rfl) rfl
theorem q1030 : (Jvm.Cond.selects "java/lang/AssertionError" ({ cls := "java/lang/Throwable", name := "getMessage", desc := "()Ljava/lang/String;" } : Jvm.MethodName) ({ cls := "java/lang/Throwable", name := "getMessage", desc := "()Ljava/lang/String;" } : Jvm.MethodName)) ∈ lw_all := lw_g (lw_at lw_m4 148 rfl) rfl
theorem q1049 : (Jvm.Cond.selects "java/lang/AssertionError" ({ cls := "java/lang/Object", name := "toString", desc := "()Ljava/lang/String;" } : Jvm.MethodName) ({ cls := "java/lang/Throwable", name := "toString", desc := "()Ljava/lang/String;" } : Jvm.MethodName)) ∈ lw_all := lw_g (lw_at lw_m4 167 rfl) rfl
theorem q1075 : (Jvm.Cond.methodLink "java/lang/AssertionError" (16 : Nat) ({ cls := "java/lang/AssertionError", name := "<init>", desc := "(Ljava/lang/String;)V" } : Jvm.MethodName)) ∈ lw_all := lw_g (lw_at lw_m4 193 rfl) rfl
theorem q1076 : (Jvm.Cond.instanceMethod ({ cls := "java/lang/AssertionError", name := "<init>", desc := "(Ljava/lang/String;)V" } : Jvm.MethodName)) ∈ lw_all := lw_g (lw_at lw_m4 194 rfl) rfl
theorem q1077 : (Jvm.Cond.code ({ cls := "java/lang/AssertionError", name := "<init>", desc := "(Ljava/lang/String;)V" } : Jvm.MethodName) prog_17_method_2_code (2 : Nat) (Option.none : Option Jvm.ClassFile.FieldType)) ∈ lw_all := lw_g (lw_at lw_m4 195 rfl) rfl
theorem q1078 : (Jvm.Cond.methodLink "java/lang/AssertionError" (7 : Nat) ({ cls := "java/lang/Error", name := "<init>", desc := "(Ljava/lang/String;)V" } : Jvm.MethodName)) ∈ lw_all := lw_g (lw_at lw_m4 196 rfl) rfl
theorem q1082 : (Jvm.Cond.lays "java/lang/AssertionError" "java/lang/Throwable" "depth" "I") ∈ lw_all := lw_g (lw_at lw_m4 200 rfl) rfl
theorem q1083 : (Jvm.Cond.superclass "java/lang/AssertionError" "java/lang/Error") ∈ lw_all := lw_g (lw_at lw_m4 201 rfl) rfl
theorem q1085 : (Jvm.Cond.classLink "java/lang/AssertionError" (19 : Nat) "java/lang/Throwable") ∈ lw_all := lw_g (lw_at lw_m4 203 rfl) rfl
theorem q1086 : (Jvm.Cond.methodLink "java/lang/AssertionError" (21 : Nat) ({ cls := "java/lang/AssertionError", name := "initCause", desc := "(Ljava/lang/Throwable;)Ljava/lang/Throwable;" } : Jvm.MethodName)) ∈ lw_all := lw_g (lw_at lw_m4 204 rfl) rfl
theorem q1087 : (Jvm.Cond.sameMethod "java/lang/AssertionError" "java/lang/Throwable" "initCause" "(Ljava/lang/Throwable;)Ljava/lang/Throwable;") ∈ lw_all := lw_g (lw_at lw_m4 205 rfl) rfl
theorem q1089 : (Jvm.Cond.selects "java/lang/AssertionError" ({ cls := "java/lang/AssertionError", name := "initCause", desc := "(Ljava/lang/Throwable;)Ljava/lang/Throwable;" } : Jvm.MethodName) ({ cls := "java/lang/Throwable", name := "initCause", desc := "(Ljava/lang/Throwable;)Ljava/lang/Throwable;" } : Jvm.MethodName)) ∈ lw_all := lw_g (lw_at lw_m4 207 rfl) rfl
theorem q1660 : (Jvm.Cond.selects "java/lang/AssertionError" ({ cls := "java/lang/Object", name := "hashCode", desc := "()I" } : Jvm.MethodName) ({ cls := "java/lang/Object", name := "hashCode", desc := "()I" } : Jvm.MethodName)) ∈ lw_all := lw_g (lw_at lw_m7 58 rfl) rfl
theorem q1752 : (Jvm.Cond.selects "java/lang/AssertionError" ({ cls := "java/lang/Object", name := "equals", desc := "(Ljava/lang/Object;)Z" } : Jvm.MethodName) ({ cls := "java/lang/Object", name := "equals", desc := "(Ljava/lang/Object;)Z" } : Jvm.MethodName)) ∈ lw_all := lw_g (lw_at lw_m7 150 rfl) rfl
theorem q4602 : (Jvm.Cond.castable "java/lang/AssertionError" "java/lang/Throwable") ∈ lw_tbl := lw_at lw_m19 120 rfl
theorem q4619 : (Jvm.Cond.castable "java/lang/AssertionError" "java/lang/Object") ∈ lw_tbl := lw_at lw_m19 137 rfl
theorem q195 : (Jvm.Cond.initialized "java/lang/IllegalStateException") ∈ lw_all := lw_g (lw_at lw_m1 33 rfl) rfl
theorem q300 : (Jvm.Cond.selects "java/lang/IllegalStateException" ({ cls := "java/lang/Throwable", name := "fillInStackTrace", desc := "()Ljava/lang/Throwable;" } : Jvm.MethodName) ({ cls := "java/lang/Throwable", name := "fillInStackTrace", desc := "()Ljava/lang/Throwable;" } : Jvm.MethodName)) ∈ lw_all := lw_g (lw_at lw_m1 138 rfl) rfl
theorem q986 : (Jvm.Cond.selects "java/lang/IllegalStateException" ({ cls := "java/lang/Object", name := "getClass", desc := "()Ljava/lang/Class;" } : Jvm.MethodName) ({ cls := "java/lang/Object", name := "getClass", desc := "()Ljava/lang/Class;" } : Jvm.MethodName)) ∈ lw_all := lw_g (lw_at lw_m4 104 rfl) rfl
theorem q1021 : (Jvm.Cond.selects "java/lang/IllegalStateException" ({ cls := "java/lang/Throwable", name := "getLocalizedMessage", desc := "()Ljava/lang/String;" } : Jvm.MethodName) ({ cls := "java/lang/Throwable", name := "getLocalizedMessage", desc := "()Ljava/lang/String;" } : Jvm.MethodName)) ∈ lw_all := lw_g (lw_at lw_m4 139 rfl) rfl
theorem q1032 : (Jvm.Cond.selects "java/lang/IllegalStateException" ({ cls := "java/lang/Throwable", name := "getMessage", desc := "()Ljava/lang/String;" } : Jvm.MethodName) ({ cls := "java/lang/Throwable", name := "getMessage", desc := "()Ljava/lang/String;" } : Jvm.MethodName)) ∈ lw_all := lw_g (lw_at lw_m4 150 rfl) rfl
theorem q1051 : (Jvm.Cond.selects "java/lang/IllegalStateException" ({ cls := "java/lang/Object", name := "toString", desc := "()Ljava/lang/String;" } : Jvm.MethodName) ({ cls := "java/lang/Throwable", name := "toString", desc := "()Ljava/lang/String;" } : Jvm.MethodName)) ∈ lw_all := lw_g (lw_at lw_m4 169 rfl) rfl
theorem q1093 : (Jvm.Cond.instantiable "java/lang/IllegalStateException" (6 : Nat)) ∈ lw_all := lw_g (lw_at lw_m4 211 rfl) rfl
theorem q1094 : (Jvm.Cond.castable "java/lang/IllegalStateException" "java/lang/IllegalStateException") ∈ lw_tbl := lw_at lw_m4 212 rfl
theorem q1095 : (Jvm.Cond.selects "java/lang/IllegalStateException" ({ cls := "java/lang/Throwable", name := "fillInStackTrace", desc := "(I)Ljava/lang/Throwable;" } : Jvm.MethodName) ({ cls := "java/lang/Throwable", name := "fillInStackTrace", desc := "(I)Ljava/lang/Throwable;" } : Jvm.MethodName)) ∈ lw_all := lw_g (lw_at lw_m4 213 rfl) rfl
theorem q1096 : (Jvm.Cond.lays "java/lang/IllegalStateException" "java/lang/Throwable" "cause" "Ljava/lang/Throwable;") ∈ lw_all := lw_g (lw_at lw_m4 214 rfl) rfl
theorem q1097 : (Jvm.Cond.lays "java/lang/IllegalStateException" "java/lang/Throwable" "stackTrace" "[Ljava/lang/StackTraceElement;") ∈ lw_all := lw_g (lw_at lw_m4 215 rfl) rfl
theorem q1098 : (Jvm.Cond.lays "java/lang/IllegalStateException" "java/lang/Throwable" "suppressedExceptions" "Ljava/util/List;") ∈ lw_all := lw_g (lw_at lw_m4 216 rfl) rfl
theorem q1099 : (Jvm.Cond.lays "java/lang/IllegalStateException" "java/lang/Throwable" "detailMessage" "Ljava/lang/String;") ∈ lw_all := lw_g (lw_at lw_m4 217 rfl) rfl
theorem q1100 : (Jvm.Cond.lays "java/lang/IllegalStateException" "java/lang/Throwable" "backtrace" "Ljava/lang/Object;") ∈ lw_all := lw_g (lw_at lw_m4 218 rfl) rfl
theorem q1108 : (Jvm.Cond.instanceMethod ({ cls := "java/lang/IllegalStateException", name := "<init>", desc := "(Ljava/lang/String;Ljava/lang/Throwable;)V" } : Jvm.MethodName)) ∈ lw_all := lw_g (lw_at lw_m4 226 rfl) rfl
theorem q1109 : (Jvm.Cond.code ({ cls := "java/lang/IllegalStateException", name := "<init>", desc := "(Ljava/lang/String;Ljava/lang/Throwable;)V" } : Jvm.MethodName) prog_27_method_3_code (3 : Nat) (Option.none : Option Jvm.ClassFile.FieldType)) ∈ lw_all := lw_g (lw_at lw_m4 227 rfl) rfl
theorem q1110 : (Jvm.Cond.methodLink "java/lang/IllegalStateException" (10 : Nat) ({ cls := "java/lang/RuntimeException", name := "<init>", desc := "(Ljava/lang/String;Ljava/lang/Throwable;)V" } : Jvm.MethodName)) ∈ lw_all := lw_g (lw_at lw_m4 228 rfl) rfl
theorem q1119 : (Jvm.Cond.lays "java/lang/IllegalStateException" "java/lang/Throwable" "depth" "I") ∈ lw_all := lw_g (lw_at lw_m4 237 rfl) rfl
theorem q1120 : (Jvm.Cond.superclass "java/lang/IllegalStateException" "java/lang/RuntimeException") ∈ lw_all := lw_g (lw_at lw_m4 238 rfl) rfl
theorem q1662 : (Jvm.Cond.selects "java/lang/IllegalStateException" ({ cls := "java/lang/Object", name := "hashCode", desc := "()I" } : Jvm.MethodName) ({ cls := "java/lang/Object", name := "hashCode", desc := "()I" } : Jvm.MethodName)) ∈ lw_all := lw_g (lw_at lw_m7 60 rfl) rfl
theorem q1754 : (Jvm.Cond.selects "java/lang/IllegalStateException" ({ cls := "java/lang/Object", name := "equals", desc := "(Ljava/lang/Object;)Z" } : Jvm.MethodName) ({ cls := "java/lang/Object", name := "equals", desc := "(Ljava/lang/Object;)Z" } : Jvm.MethodName)) ∈ lw_all := lw_g (lw_at lw_m7 152 rfl) rfl
theorem q2299 : (Jvm.Cond.instanceMethod ({ cls := "java/lang/IllegalStateException", name := "<init>", desc := "(Ljava/lang/String;)V" } : Jvm.MethodName)) ∈ lw_all := lw_g (lw_at lw_m9 217 rfl) rfl
theorem q2300 : (Jvm.Cond.code ({ cls := "java/lang/IllegalStateException", name := "<init>", desc := "(Ljava/lang/String;)V" } : Jvm.MethodName) prog_27_method_2_code (2 : Nat) (Option.none : Option Jvm.ClassFile.FieldType)) ∈ lw_all := lw_g (lw_at lw_m9 218 rfl) rfl
theorem q2301 : (Jvm.Cond.methodLink "java/lang/IllegalStateException" (7 : Nat) ({ cls := "java/lang/RuntimeException", name := "<init>", desc := "(Ljava/lang/String;)V" } : Jvm.MethodName)) ∈ lw_all := lw_g (lw_at lw_m9 219 rfl) rfl
theorem q3047 : (Jvm.Cond.instanceMethod ({ cls := "java/lang/IllegalStateException", name := "<init>", desc := "()V" } : Jvm.MethodName)) ∈ lw_all := lw_g (lw_at lw_m13 5 rfl) rfl
theorem q3048 : (Jvm.Cond.code ({ cls := "java/lang/IllegalStateException", name := "<init>", desc := "()V" } : Jvm.MethodName) prog_27_method_1_code (1 : Nat) (Option.none : Option Jvm.ClassFile.FieldType)) ∈ lw_all := lw_g (lw_at lw_m13 6 rfl) rfl
theorem q3049 : (Jvm.Cond.methodLink "java/lang/IllegalStateException" (1 : Nat) ({ cls := "java/lang/RuntimeException", name := "<init>", desc := "()V" } : Jvm.MethodName)) ∈ lw_all := lw_g (lw_at lw_m13 7 rfl) rfl
theorem q4604 : (Jvm.Cond.castable "java/lang/IllegalStateException" "java/lang/Throwable") ∈ lw_tbl := lw_at lw_m19 122 rfl
theorem q4621 : (Jvm.Cond.castable "java/lang/IllegalStateException" "java/lang/Object") ∈ lw_tbl := lw_at lw_m19 139 rfl
theorem q168 : (Jvm.Cond.initialized "java/lang/Throwable") ∈ lw_all := lw_g (lw_at lw_m1 6 rfl) rfl
theorem q271 : (Jvm.Cond.declares ({ cls := "java/lang/Throwable", name := "<init>", desc := "()V" } : Jvm.MethodName)) ∈ lw_tbl := lw_at lw_m1 109 rfl
theorem q272 : (Jvm.Cond.declares ({ cls := "java/lang/Throwable", name := "<init>", desc := "(Ljava/lang/String;)V" } : Jvm.MethodName)) ∈ lw_tbl := lw_at lw_m1 110 rfl
theorem q276 : (Jvm.Cond.lays "java/lang/Throwable" "java/lang/Throwable" "cause" "Ljava/lang/Throwable;") ∈ lw_all := lw_g (lw_at lw_m1 114 rfl) rfl
theorem q278 : (Jvm.Cond.lays "java/lang/Throwable" "java/lang/Throwable" "stackTrace" "[Ljava/lang/StackTraceElement;") ∈ lw_all := lw_g (lw_at lw_m1 116 rfl) rfl
theorem q280 : (Jvm.Cond.lays "java/lang/Throwable" "java/lang/Throwable" "suppressedExceptions" "Ljava/util/List;") ∈ lw_all := lw_g (lw_at lw_m1 118 rfl) rfl
theorem q282 : (Jvm.Cond.lays "java/lang/Throwable" "java/lang/Throwable" "detailMessage" "Ljava/lang/String;") ∈ lw_all := lw_g (lw_at lw_m1 120 rfl) rfl
theorem q284 : (Jvm.Cond.lays "java/lang/Throwable" "java/lang/Throwable" "backtrace" "Ljava/lang/Object;") ∈ lw_all := lw_g (lw_at lw_m1 122 rfl) rfl
theorem q285 : (Jvm.Cond.fieldLink "java/lang/Throwable" (198 : Nat) "java/lang/Throwable" "backtrace" "Ljava/lang/Object;") ∈ lw_all := lw_g (lw_at lw_m1 123 rfl) rfl
theorem q286 : (Jvm.Cond.superclass "java/lang/Throwable" "java/lang/Object") ∈ lw_all := lw_g (lw_at lw_m1 124 rfl) rfl
theorem q287 : (Jvm.Cond.instanceMethod ({ cls := "java/lang/Throwable", name := "<init>", desc := "()V" } : Jvm.MethodName)) ∈ lw_all := lw_g (lw_at lw_m1 125 rfl) rfl
theorem q288 : (Jvm.Cond.code ({ cls := "java/lang/Throwable", name := "<init>", desc := "()V" } : Jvm.MethodName) prog_45_method_1_code (1 : Nat) (Option.none : Option Jvm.ClassFile.FieldType)) ∈ lw_all := lw_g (lw_at lw_m1 126 rfl) rfl
theorem q289 : (Jvm.Cond.methodLink "java/lang/Throwable" (1 : Nat) ({ cls := "java/lang/Object", name := "<init>", desc := "()V" } : Jvm.MethodName)) ∈ lw_all := lw_g (lw_at lw_m1 127 rfl) rfl
theorem q290 : (Jvm.Cond.fieldLink "java/lang/Throwable" (13 : Nat) "java/lang/Throwable" "UNASSIGNED_STACK" "[Ljava/lang/StackTraceElement;") ∈ lw_all := lw_g (lw_at lw_m1 128 rfl) rfl
theorem q291 : (Jvm.Cond.laysStatic "java/lang/Throwable" "UNASSIGNED_STACK" "[Ljava/lang/StackTraceElement;") ∈ lw_tbl := lw_at lw_m1 129 rfl
theorem q292 : (Jvm.Cond.fieldLink "java/lang/Throwable" (20 : Nat) "java/lang/Throwable" "SUPPRESSED_SENTINEL" "Ljava/util/List;") ∈ lw_all := lw_g (lw_at lw_m1 130 rfl) rfl
theorem q293 : (Jvm.Cond.laysStatic "java/lang/Throwable" "SUPPRESSED_SENTINEL" "Ljava/util/List;") ∈ lw_tbl := lw_at lw_m1 131 rfl
theorem q294 : (Jvm.Cond.methodLink "java/lang/Throwable" (27 : Nat) ({ cls := "java/lang/Throwable", name := "fillInStackTrace", desc := "()Ljava/lang/Throwable;" } : Jvm.MethodName)) ∈ lw_all := lw_g (lw_at lw_m1 132 rfl) rfl
theorem q295 : (Jvm.Cond.instanceMethod ({ cls := "java/lang/Throwable", name := "fillInStackTrace", desc := "()Ljava/lang/Throwable;" } : Jvm.MethodName)) ∈ lw_all := lw_g (lw_at lw_m1 133 rfl) rfl
theorem q296 : (Jvm.Cond.sameMethod "java/lang/Throwable" "java/lang/Throwable" "fillInStackTrace" "()Ljava/lang/Throwable;") ∈ lw_all := lw_g (lw_at lw_m1 134 rfl) rfl
theorem q303 : (Jvm.Cond.codeSync ({ cls := "java/lang/Throwable", name := "fillInStackTrace", desc := "()Ljava/lang/Throwable;" } : Jvm.MethodName) prog_45_method_18_code (1 : Nat) (Option.some (Jvm.ClassFile.FieldType.object "java/lang/Throwable"))) ∈ lw_all := lw_g (lw_at lw_m1 141 rfl) rfl
theorem q304 : (Jvm.Cond.methodLink "java/lang/Throwable" (202 : Nat) ({ cls := "java/lang/Throwable", name := "fillInStackTrace", desc := "(I)Ljava/lang/Throwable;" } : Jvm.MethodName)) ∈ lw_all := lw_g (lw_at lw_m1 142 rfl) rfl
theorem q305 : (Jvm.Cond.privateMethod ({ cls := "java/lang/Throwable", name := "fillInStackTrace", desc := "(I)Ljava/lang/Throwable;" } : Jvm.MethodName)) ∈ lw_tbl := lw_at lw_m1 143 rfl
theorem q306 : (Jvm.Cond.instanceMethod ({ cls := "java/lang/Throwable", name := "fillInStackTrace", desc := "(I)Ljava/lang/Throwable;" } : Jvm.MethodName)) ∈ lw_all := lw_g (lw_at lw_m1 144 rfl) rfl
theorem q307 : (Jvm.Cond.instantiable "java/lang/Throwable" (6 : Nat)) ∈ lw_all := lw_g (lw_at lw_m1 145 rfl) rfl
theorem q308 : (Jvm.Cond.native ({ cls := "java/lang/Throwable", name := "fillInStackTrace", desc := "(I)Ljava/lang/Throwable;" } : Jvm.MethodName)) ∈ lw_all := lw_g (lw_at lw_m1 146 rfl) rfl
theorem q542 : (Jvm.Cond.instanceMethod ({ cls := "java/lang/Throwable", name := "<init>", desc := "(Ljava/lang/String;)V" } : Jvm.MethodName)) ∈ lw_all := lw_g (lw_at lw_m2 140 rfl) rfl
theorem q543 : (Jvm.Cond.code ({ cls := "java/lang/Throwable", name := "<init>", desc := "(Ljava/lang/String;)V" } : Jvm.MethodName) prog_45_method_2_code (2 : Nat) (Option.none : Option Jvm.ClassFile.FieldType)) ∈ lw_all := lw_g (lw_at lw_m2 141 rfl) rfl
theorem q544 : (Jvm.Cond.fieldLink "java/lang/Throwable" (198 : Nat) "java/lang/Throwable" "backtrace" "Ljava/lang/Object;") ∈ lw_all := lw_g (lw_at lw_m2 142 rfl) rfl
theorem q545 : (Jvm.Cond.fieldLink "java/lang/Throwable" (31 : Nat) "java/lang/Throwable" "detailMessage" "Ljava/lang/String;") ∈ lw_all := lw_g (lw_at lw_m2 143 rfl) rfl
theorem q546 : (Jvm.Cond.fieldLink "java/lang/Throwable" (7 : Nat) "java/lang/Throwable" "cause" "Ljava/lang/Throwable;") ∈ lw_all := lw_g (lw_at lw_m2 144 rfl) rfl
theorem q547 : (Jvm.Cond.fieldLink "java/lang/Throwable" (17 : Nat) "java/lang/Throwable" "stackTrace" "[Ljava/lang/StackTraceElement;") ∈ lw_all := lw_g (lw_at lw_m2 145 rfl) rfl
theorem q548 : (Jvm.Cond.fieldLink "java/lang/Throwable" (24 : Nat) "java/lang/Throwable" "suppressedExceptions" "Ljava/util/List;") ∈ lw_all := lw_g (lw_at lw_m2 146 rfl) rfl
theorem q549 : (Jvm.Cond.soleField "java/lang/Throwable" "backtrace") ∈ lw_all := lw_g (lw_at lw_m2 147 rfl) rfl
theorem q550 : (Jvm.Cond.soleField "java/lang/Throwable" "detailMessage") ∈ lw_all := lw_g (lw_at lw_m2 148 rfl) rfl
theorem q551 : (Jvm.Cond.soleField "java/lang/Throwable" "cause") ∈ lw_all := lw_g (lw_at lw_m2 149 rfl) rfl
theorem q552 : (Jvm.Cond.soleField "java/lang/Throwable" "stackTrace") ∈ lw_all := lw_g (lw_at lw_m2 150 rfl) rfl
theorem q554 : (Jvm.Cond.soleField "java/lang/Throwable" "depth") ∈ lw_all := lw_g (lw_at lw_m2 152 rfl) rfl
theorem q555 : (Jvm.Cond.soleField "java/lang/Throwable" "suppressedExceptions") ∈ lw_all := lw_g (lw_at lw_m2 153 rfl) rfl
theorem q968 : (Jvm.Cond.instanceMethod ({ cls := "java/lang/Throwable", name := "toString", desc := "()Ljava/lang/String;" } : Jvm.MethodName)) ∈ lw_all := lw_g (lw_at lw_m4 86 rfl) rfl
theorem q969 : (Jvm.Cond.code ({ cls := "java/lang/Throwable", name := "toString", desc := "()Ljava/lang/String;" } : Jvm.MethodName) prog_45_method_11_code (3 : Nat) (Option.some (Jvm.ClassFile.FieldType.object "java/lang/String"))) ∈ lw_all := lw_g (lw_at lw_m4 87 rfl) rfl
theorem q970 : (Jvm.Cond.methodLink "java/lang/Throwable" (69 : Nat) ({ cls := "java/lang/Object", name := "getClass", desc := "()Ljava/lang/Class;" } : Jvm.MethodName)) ∈ lw_all := lw_g (lw_at lw_m4 88 rfl) rfl
theorem q1014 : (Jvm.Cond.methodLink "java/lang/Throwable" (78 : Nat) ({ cls := "java/lang/Throwable", name := "getLocalizedMessage", desc := "()Ljava/lang/String;" } : Jvm.MethodName)) ∈ lw_all := lw_g (lw_at lw_m4 132 rfl) rfl
theorem q1015 : (Jvm.Cond.instanceMethod ({ cls := "java/lang/Throwable", name := "getLocalizedMessage", desc := "()Ljava/lang/String;" } : Jvm.MethodName)) ∈ lw_all := lw_g (lw_at lw_m4 133 rfl) rfl
theorem q1016 : (Jvm.Cond.sameMethod "java/lang/Throwable" "java/lang/Throwable" "getLocalizedMessage" "()Ljava/lang/String;") ∈ lw_all := lw_g (lw_at lw_m4 134 rfl) rfl
theorem q1024 : (Jvm.Cond.code ({ cls := "java/lang/Throwable", name := "getLocalizedMessage", desc := "()Ljava/lang/String;" } : Jvm.MethodName) prog_45_method_7_code (1 : Nat) (Option.some (Jvm.ClassFile.FieldType.object "java/lang/String"))) ∈ lw_all := lw_g (lw_at lw_m4 142 rfl) rfl
theorem q1025 : (Jvm.Cond.methodLink "java/lang/Throwable" (39 : Nat) ({ cls := "java/lang/Throwable", name := "getMessage", desc := "()Ljava/lang/String;" } : Jvm.MethodName)) ∈ lw_all := lw_g (lw_at lw_m4 143 rfl) rfl
theorem q1026 : (Jvm.Cond.instanceMethod ({ cls := "java/lang/Throwable", name := "getMessage", desc := "()Ljava/lang/String;" } : Jvm.MethodName)) ∈ lw_all := lw_g (lw_at lw_m4 144 rfl) rfl
theorem q1027 : (Jvm.Cond.sameMethod "java/lang/Throwable" "java/lang/Throwable" "getMessage" "()Ljava/lang/String;") ∈ lw_all := lw_g (lw_at lw_m4 145 rfl) rfl
theorem q1035 : (Jvm.Cond.code ({ cls := "java/lang/Throwable", name := "getMessage", desc := "()Ljava/lang/String;" } : Jvm.MethodName) prog_45_method_6_code (1 : Nat) (Option.some (Jvm.ClassFile.FieldType.object "java/lang/String"))) ∈ lw_all := lw_g (lw_at lw_m4 153 rfl) rfl
theorem q1036 : (Jvm.Cond.classLink "java/lang/Throwable" (44 : Nat) "java/lang/StringBuilder") ∈ lw_all := lw_g (lw_at lw_m4 154 rfl) rfl
theorem q1037 : (Jvm.Cond.methodLink "java/lang/Throwable" (46 : Nat) ({ cls := "java/lang/StringBuilder", name := "<init>", desc := "()V" } : Jvm.MethodName)) ∈ lw_all := lw_g (lw_at lw_m4 155 rfl) rfl
theorem q1038 : (Jvm.Cond.methodLink "java/lang/Throwable" (49 : Nat) ({ cls := "java/lang/StringBuilder", name := "append", desc := "(Ljava/lang/String;)Ljava/lang/StringBuilder;" } : Jvm.MethodName)) ∈ lw_all := lw_g (lw_at lw_m4 156 rfl) rfl
theorem q1039 : (Jvm.Cond.stringRef "java/lang/Throwable" (81 : Nat) ": ") ∈ lw_tbl := lw_at lw_m4 157 rfl
theorem q1040 : (Jvm.Cond.methodLink "java/lang/Throwable" (60 : Nat) ({ cls := "java/lang/StringBuilder", name := "toString", desc := "()Ljava/lang/String;" } : Jvm.MethodName)) ∈ lw_all := lw_g (lw_at lw_m4 158 rfl) rfl
theorem q1088 : (Jvm.Cond.declares ({ cls := "java/lang/Throwable", name := "initCause", desc := "(Ljava/lang/Throwable;)Ljava/lang/Throwable;" } : Jvm.MethodName)) ∈ lw_tbl := lw_at lw_m4 206 rfl
theorem q1090 : (Jvm.Cond.instanceMethod ({ cls := "java/lang/Throwable", name := "initCause", desc := "(Ljava/lang/Throwable;)Ljava/lang/Throwable;" } : Jvm.MethodName)) ∈ lw_all := lw_g (lw_at lw_m4 208 rfl) rfl
theorem q1091 : (Jvm.Cond.codeSync ({ cls := "java/lang/Throwable", name := "initCause", desc := "(Ljava/lang/Throwable;)Ljava/lang/Throwable;" } : Jvm.MethodName) prog_45_method_9_code (2 : Nat) (Option.some (Jvm.ClassFile.FieldType.object "java/lang/Throwable"))) ∈ lw_all := lw_g (lw_at lw_m4 209 rfl) rfl
theorem q1092 : (Jvm.Cond.classLink "java/lang/Throwable" (42 : Nat) "java/lang/IllegalStateException") ∈ lw_all := lw_g (lw_at lw_m4 210 rfl) rfl
theorem q1101 : (Jvm.Cond.stringRef "java/lang/Throwable" (47 : Nat) "Can't overwrite cause with ") ∈ lw_tbl := lw_at lw_m4 219 rfl
theorem q1102 : (Jvm.Cond.stringRef "java/lang/Throwable" (53 : Nat) "a null") ∈ lw_tbl := lw_at lw_m4 220 rfl
theorem q1103 : (Jvm.Cond.methodLink "java/lang/Throwable" (55 : Nat) ({ cls := "java/util/Objects", name := "toString", desc := "(Ljava/lang/Object;Ljava/lang/String;)Ljava/lang/String;" } : Jvm.MethodName)) ∈ lw_all := lw_g (lw_at lw_m4 221 rfl) rfl
theorem q1107 : (Jvm.Cond.methodLink "java/lang/Throwable" (61 : Nat) ({ cls := "java/lang/IllegalStateException", name := "<init>", desc := "(Ljava/lang/String;Ljava/lang/Throwable;)V" } : Jvm.MethodName)) ∈ lw_all := lw_g (lw_at lw_m4 225 rfl) rfl
theorem q1117 : (Jvm.Cond.instanceMethod ({ cls := "java/lang/Throwable", name := "<init>", desc := "(Ljava/lang/String;Ljava/lang/Throwable;)V" } : Jvm.MethodName)) ∈ lw_all := lw_g (lw_at lw_m4 235 rfl) rfl
theorem q1118 : (Jvm.Cond.code ({ cls := "java/lang/Throwable", name := "<init>", desc := "(Ljava/lang/String;Ljava/lang/Throwable;)V" } : Jvm.MethodName) prog_45_method_3_code (3 : Nat) (Option.none : Option Jvm.ClassFile.FieldType)) ∈ lw_all := lw_g (lw_at lw_m4 236 rfl) rfl
theorem q1121 : (Jvm.Cond.classLink "java/lang/Throwable" (64 : Nat) "java/lang/IllegalArgumentException") ∈ lw_all := lw_g (lw_at lw_m4 239 rfl) rfl
theorem q1122 : (Jvm.Cond.stringRef "java/lang/Throwable" (66 : Nat) "Self-causation not permitted") ∈ lw_tbl := lw_at lw_m5 0 rfl
theorem q1123 : (Jvm.Cond.methodLink "java/lang/Throwable" (68 : Nat) ({ cls := "java/lang/IllegalArgumentException", name := "<init>", desc := "(Ljava/lang/String;Ljava/lang/Throwable;)V" } : Jvm.MethodName)) ∈ lw_all := lw_g (lw_at lw_m5 1 rfl) rfl
theorem q3168 : (Jvm.Cond.instanceMethod ({ cls := "java/lang/Throwable", name := "<init>", desc := "(Ljava/lang/String;Ljava/lang/Throwable;ZZ)V" } : Jvm.MethodName)) ∈ lw_all := lw_g (lw_at lw_m13 126 rfl) rfl
theorem q3169 : (Jvm.Cond.code ({ cls := "java/lang/Throwable", name := "<init>", desc := "(Ljava/lang/String;Ljava/lang/Throwable;ZZ)V" } : Jvm.MethodName) prog_45_method_5_code (5 : Nat) (Option.none : Option Jvm.ClassFile.FieldType)) ∈ lw_all := lw_g (lw_at lw_m13 127 rfl) rfl
theorem q4567 : (Jvm.Cond.sameMethod "java/lang/Throwable" "java/lang/Throwable" "fillInStackTrace" "(I)Ljava/lang/Throwable;") ∈ lw_all := lw_g (lw_at lw_m19 85 rfl) rfl
theorem q4649 : (Jvm.Cond.castable "java/lang/Throwable" "java/lang/Object") ∈ lw_tbl := lw_at lw_m19 167 rfl
theorem q196 : (Jvm.Cond.initialized "java/util/Objects") ∈ lw_all := lw_g (lw_at lw_m1 34 rfl) rfl
theorem q1104 : (Jvm.Cond.static ({ cls := "java/util/Objects", name := "toString", desc := "(Ljava/lang/Object;Ljava/lang/String;)Ljava/lang/String;" } : Jvm.MethodName)) ∈ lw_all := lw_g (lw_at lw_m4 222 rfl) rfl
theorem q1105 : (Jvm.Cond.code ({ cls := "java/util/Objects", name := "toString", desc := "(Ljava/lang/Object;Ljava/lang/String;)Ljava/lang/String;" } : Jvm.MethodName) prog_80_method_7_code (2 : Nat) (Option.some (Jvm.ClassFile.FieldType.object "java/lang/String"))) ∈ lw_all := lw_g (lw_at lw_m4 223 rfl) rfl
theorem q1106 : (Jvm.Cond.methodLink "java/util/Objects" (37 : Nat) ({ cls := "java/lang/Object", name := "toString", desc := "()Ljava/lang/String;" } : Jvm.MethodName)) ∈ lw_all := lw_g (lw_at lw_m4 224 rfl) rfl
theorem q1429 : (Jvm.Cond.static ({ cls := "java/util/Objects", name := "checkIndex", desc := "(II)I" } : Jvm.MethodName)) ∈ lw_all := lw_g (lw_at lw_m6 67 rfl) rfl
theorem q1430 : (Jvm.Cond.code ({ cls := "java/util/Objects", name := "checkIndex", desc := "(II)I" } : Jvm.MethodName) prog_80_method_17_code (2 : Nat) (Option.some Jvm.ClassFile.FieldType.int)) ∈ lw_all := lw_g (lw_at lw_m6 68 rfl) rfl
theorem q1431 : (Jvm.Cond.methodLink "java/util/Objects" (105 : Nat) ({ cls := "jdk/internal/util/Preconditions", name := "checkIndex", desc := "(IILjava/util/function/BiFunction;)I" } : Jvm.MethodName)) ∈ lw_all := lw_g (lw_at lw_m6 69 rfl) rfl
theorem q199 : (Jvm.Cond.initialized "java/util/ArrayDeque") ∈ lw_all := lw_g (lw_at lw_m1 37 rfl) rfl
theorem q993 : (Jvm.Cond.selects "java/util/ArrayDeque" ({ cls := "java/lang/Object", name := "getClass", desc := "()Ljava/lang/Class;" } : Jvm.MethodName) ({ cls := "java/lang/Object", name := "getClass", desc := "()Ljava/lang/Class;" } : Jvm.MethodName)) ∈ lw_all := lw_g (lw_at lw_m4 111 rfl) rfl
theorem q1438 : (Jvm.Cond.instantiable "java/util/ArrayDeque" (3 : Nat)) ∈ lw_all := lw_g (lw_at lw_m6 76 rfl) rfl
theorem q1440 : (Jvm.Cond.instanceMethod ({ cls := "java/util/ArrayDeque", name := "<init>", desc := "(I)V" } : Jvm.MethodName)) ∈ lw_all := lw_g (lw_at lw_m6 78 rfl) rfl
theorem q1441 : (Jvm.Cond.code ({ cls := "java/util/ArrayDeque", name := "<init>", desc := "(I)V" } : Jvm.MethodName) prog_52_method_4_code (2 : Nat) (Option.none : Option Jvm.ClassFile.FieldType)) ∈ lw_all := lw_g (lw_at lw_m6 79 rfl) rfl
theorem q1442 : (Jvm.Cond.methodLink "java/util/ArrayDeque" (42 : Nat) ({ cls := "java/util/AbstractCollection", name := "<init>", desc := "()V" } : Jvm.MethodName)) ∈ lw_all := lw_g (lw_at lw_m6 80 rfl) rfl
theorem q1443 : (Jvm.Cond.constant "java/util/ArrayDeque" (41 : Nat) (2147483647 : Int32)) ∈ lw_all := lw_g (lw_at lw_m6 81 rfl) rfl
theorem q1444 : (Jvm.Cond.classLink "java/util/ArrayDeque" (47 : Nat) "java/lang/Object") ∈ lw_all := lw_g (lw_at lw_m6 82 rfl) rfl
theorem q1445 : (Jvm.Cond.fieldLink "java/util/ArrayDeque" (3 : Nat) "java/util/ArrayDeque" "elements" "[Ljava/lang/Object;") ∈ lw_all := lw_g (lw_at lw_m6 83 rfl) rfl
theorem q1448 : (Jvm.Cond.fieldLink "java/util/ArrayDeque" (24 : Nat) "java/util/ArrayDeque" "head" "I") ∈ lw_all := lw_g (lw_at lw_m6 86 rfl) rfl
theorem q1449 : (Jvm.Cond.fieldLink "java/util/ArrayDeque" (20 : Nat) "java/util/ArrayDeque" "tail" "I") ∈ lw_all := lw_g (lw_at lw_m6 87 rfl) rfl
theorem q1450 : (Jvm.Cond.lays "java/util/ArrayDeque" "java/util/ArrayDeque" "elements" "[Ljava/lang/Object;") ∈ lw_all := lw_g (lw_at lw_m6 88 rfl) rfl
theorem q1451 : (Jvm.Cond.soleField "java/util/ArrayDeque" "elements") ∈ lw_all := lw_g (lw_at lw_m6 89 rfl) rfl
theorem q1452 : (Jvm.Cond.lays "java/util/ArrayDeque" "java/util/ArrayDeque" "head" "I") ∈ lw_all := lw_g (lw_at lw_m6 90 rfl) rfl
theorem q1453 : (Jvm.Cond.soleField "java/util/ArrayDeque" "head") ∈ lw_all := lw_g (lw_at lw_m6 91 rfl) rfl
theorem q1454 : (Jvm.Cond.lays "java/util/ArrayDeque" "java/util/ArrayDeque" "tail" "I") ∈ lw_all := lw_g (lw_at lw_m6 92 rfl) rfl
theorem q1455 : (Jvm.Cond.soleField "java/util/ArrayDeque" "tail") ∈ lw_all := lw_g (lw_at lw_m6 93 rfl) rfl
theorem q1456 : (Jvm.Cond.superclass "java/util/ArrayDeque" "java/util/AbstractCollection") ∈ lw_all := lw_g (lw_at lw_m6 94 rfl) rfl
theorem q2112 : (Jvm.Cond.static ({ cls := "java/util/ArrayDeque", name := "nonNullElementAt", desc := "([Ljava/lang/Object;I)Ljava/lang/Object;" } : Jvm.MethodName)) ∈ lw_all := lw_g (lw_at lw_m9 30 rfl) rfl
theorem q2113 : (Jvm.Cond.code ({ cls := "java/util/ArrayDeque", name := "nonNullElementAt", desc := "([Ljava/lang/Object;I)Ljava/lang/Object;" } : Jvm.MethodName) prog_52_method_11_code (3 : Nat) (Option.some (Jvm.ClassFile.FieldType.object "java/lang/Object"))) ∈ lw_all := lw_g (lw_at lw_m9 31 rfl) rfl
theorem q2115 : (Jvm.Cond.static ({ cls := "java/util/ArrayDeque", name := "inc", desc := "(II)I" } : Jvm.MethodName)) ∈ lw_all := lw_g (lw_at lw_m9 33 rfl) rfl
theorem q2116 : (Jvm.Cond.code ({ cls := "java/util/ArrayDeque", name := "inc", desc := "(II)I" } : Jvm.MethodName) prog_52_method_6_code (2 : Nat) (Option.some Jvm.ClassFile.FieldType.int)) ∈ lw_all := lw_g (lw_at lw_m9 34 rfl) rfl
theorem q2283 : (Jvm.Cond.instanceMethod ({ cls := "java/util/ArrayDeque", name := "addLast", desc := "(Ljava/lang/Object;)V" } : Jvm.MethodName)) ∈ lw_all := lw_g (lw_at lw_m9 201 rfl) rfl
theorem q2284 : (Jvm.Cond.selects "java/util/ArrayDeque" ({ cls := "java/util/ArrayDeque", name := "addLast", desc := "(Ljava/lang/Object;)V" } : Jvm.MethodName) ({ cls := "java/util/ArrayDeque", name := "addLast", desc := "(Ljava/lang/Object;)V" } : Jvm.MethodName)) ∈ lw_all := lw_g (lw_at lw_m9 202 rfl) rfl
theorem q2285 : (Jvm.Cond.code ({ cls := "java/util/ArrayDeque", name := "addLast", desc := "(Ljava/lang/Object;)V" } : Jvm.MethodName) prog_52_method_13_code (3 : Nat) (Option.none : Option Jvm.ClassFile.FieldType)) ∈ lw_all := lw_g (lw_at lw_m9 203 rfl) rfl
theorem q2286 : (Jvm.Cond.methodLink "java/util/ArrayDeque" (74 : Nat) ({ cls := "java/util/ArrayDeque", name := "inc", desc := "(II)I" } : Jvm.MethodName)) ∈ lw_all := lw_g (lw_at lw_m9 204 rfl) rfl
theorem q2287 : (Jvm.Cond.methodLink "java/util/ArrayDeque" (71 : Nat) ({ cls := "java/util/ArrayDeque", name := "grow", desc := "(I)V" } : Jvm.MethodName)) ∈ lw_all := lw_g (lw_at lw_m9 205 rfl) rfl
theorem q2288 : (Jvm.Cond.privateMethod ({ cls := "java/util/ArrayDeque", name := "grow", desc := "(I)V" } : Jvm.MethodName)) ∈ lw_tbl := lw_at lw_m9 206 rfl
theorem q2289 : (Jvm.Cond.instanceMethod ({ cls := "java/util/ArrayDeque", name := "grow", desc := "(I)V" } : Jvm.MethodName)) ∈ lw_all := lw_g (lw_at lw_m9 207 rfl) rfl
theorem q2290 : (Jvm.Cond.code ({ cls := "java/util/ArrayDeque", name := "grow", desc := "(I)V" } : Jvm.MethodName) prog_52_method_1_code (9 : Nat) (Option.none : Option Jvm.ClassFile.FieldType)) ∈ lw_all := lw_g (lw_at lw_m9 208 rfl) rfl
theorem q2291 : (Jvm.Cond.constant "java/util/ArrayDeque" (9 : Nat) (2147483639 : Int32)) ∈ lw_all := lw_g (lw_at lw_m9 209 rfl) rfl
theorem q2292 : (Jvm.Cond.methodLink "java/util/ArrayDeque" (10 : Nat) ({ cls := "java/util/ArrayDeque", name := "newCapacity", desc := "(II)I" } : Jvm.MethodName)) ∈ lw_all := lw_g (lw_at lw_m9 210 rfl) rfl
theorem q2293 : (Jvm.Cond.privateMethod ({ cls := "java/util/ArrayDeque", name := "newCapacity", desc := "(II)I" } : Jvm.MethodName)) ∈ lw_tbl := lw_at lw_m9 211 rfl
theorem q2294 : (Jvm.Cond.instanceMethod ({ cls := "java/util/ArrayDeque", name := "newCapacity", desc := "(II)I" } : Jvm.MethodName)) ∈ lw_all := lw_g (lw_at lw_m9 212 rfl) rfl
theorem q2295 : (Jvm.Cond.code ({ cls := "java/util/ArrayDeque", name := "newCapacity", desc := "(II)I" } : Jvm.MethodName) prog_52_method_2_code (5 : Nat) (Option.some Jvm.ClassFile.FieldType.int)) ∈ lw_all := lw_g (lw_at lw_m9 213 rfl) rfl
theorem q2296 : (Jvm.Cond.classLink "java/util/ArrayDeque" (33 : Nat) "java/lang/IllegalStateException") ∈ lw_all := lw_g (lw_at lw_m9 214 rfl) rfl
theorem q2297 : (Jvm.Cond.stringRef "java/util/ArrayDeque" (35 : Nat) "Sorry, deque too big") ∈ lw_tbl := lw_at lw_m9 215 rfl
theorem q2298 : (Jvm.Cond.methodLink "java/util/ArrayDeque" (37 : Nat) ({ cls := "java/lang/IllegalStateException", name := "<init>", desc := "(Ljava/lang/String;)V" } : Jvm.MethodName)) ∈ lw_all := lw_g (lw_at lw_m9 216 rfl) rfl
theorem q2302 : (Jvm.Cond.methodLink "java/util/ArrayDeque" (14 : Nat) ({ cls := "java/util/Arrays", name := "copyOf", desc := "([Ljava/lang/Object;I)[Ljava/lang/Object;" } : Jvm.MethodName)) ∈ lw_all := lw_g (lw_at lw_m9 220 rfl) rfl
theorem q2303 : (Jvm.Cond.methodLink "java/util/ArrayDeque" (27 : Nat) ({ cls := "java/lang/System", name := "arraycopy", desc := "(Ljava/lang/Object;ILjava/lang/Object;II)V" } : Jvm.MethodName)) ∈ lw_all := lw_g (lw_at lw_m9 221 rfl) rfl
theorem q2305 : (Jvm.Cond.instanceMethod ({ cls := "java/util/ArrayDeque", name := "isEmpty", desc := "()Z" } : Jvm.MethodName)) ∈ lw_all := lw_g (lw_at lw_m9 223 rfl) rfl
theorem q2306 : (Jvm.Cond.selects "java/util/ArrayDeque" ({ cls := "java/util/ArrayDeque", name := "isEmpty", desc := "()Z" } : Jvm.MethodName) ({ cls := "java/util/ArrayDeque", name := "isEmpty", desc := "()Z" } : Jvm.MethodName)) ∈ lw_all := lw_g (lw_at lw_m9 224 rfl) rfl
theorem q2307 : (Jvm.Cond.code ({ cls := "java/util/ArrayDeque", name := "isEmpty", desc := "()Z" } : Jvm.MethodName) prog_52_method_38_code (1 : Nat) (Option.some Jvm.ClassFile.FieldType.boolean)) ∈ lw_all := lw_g (lw_at lw_m9 225 rfl) rfl
theorem q2309 : (Jvm.Cond.instanceMethod ({ cls := "java/util/ArrayDeque", name := "removeFirst", desc := "()Ljava/lang/Object;" } : Jvm.MethodName)) ∈ lw_all := lw_g (lw_at lw_m9 227 rfl) rfl
theorem q2310 : (Jvm.Cond.selects "java/util/ArrayDeque" ({ cls := "java/util/ArrayDeque", name := "removeFirst", desc := "()Ljava/lang/Object;" } : Jvm.MethodName) ({ cls := "java/util/ArrayDeque", name := "removeFirst", desc := "()Ljava/lang/Object;" } : Jvm.MethodName)) ∈ lw_all := lw_g (lw_at lw_m9 228 rfl) rfl
theorem q2311 : (Jvm.Cond.code ({ cls := "java/util/ArrayDeque", name := "removeFirst", desc := "()Ljava/lang/Object;" } : Jvm.MethodName) prog_52_method_18_code (2 : Nat) (Option.some (Jvm.ClassFile.FieldType.object "java/lang/Object"))) ∈ lw_all := lw_g (lw_at lw_m9 229 rfl) rfl
theorem q2312 : (Jvm.Cond.methodLink "java/util/ArrayDeque" (93 : Nat) ({ cls := "java/util/ArrayDeque", name := "pollFirst", desc := "()Ljava/lang/Object;" } : Jvm.MethodName)) ∈ lw_all := lw_g (lw_at lw_m9 230 rfl) rfl
theorem q2313 : (Jvm.Cond.instanceMethod ({ cls := "java/util/ArrayDeque", name := "pollFirst", desc := "()Ljava/lang/Object;" } : Jvm.MethodName)) ∈ lw_all := lw_g (lw_at lw_m9 231 rfl) rfl
theorem q2314 : (Jvm.Cond.selects "java/util/ArrayDeque" ({ cls := "java/util/ArrayDeque", name := "pollFirst", desc := "()Ljava/lang/Object;" } : Jvm.MethodName) ({ cls := "java/util/ArrayDeque", name := "pollFirst", desc := "()Ljava/lang/Object;" } : Jvm.MethodName)) ∈ lw_all := lw_g (lw_at lw_m9 232 rfl) rfl
theorem q2315 : (Jvm.Cond.code ({ cls := "java/util/ArrayDeque", name := "pollFirst", desc := "()Ljava/lang/Object;" } : Jvm.MethodName) prog_52_method_20_code (4 : Nat) (Option.some (Jvm.ClassFile.FieldType.object "java/lang/Object"))) ∈ lw_all := lw_g (lw_at lw_m9 233 rfl) rfl
theorem q2316 : (Jvm.Cond.methodLink "java/util/ArrayDeque" (103 : Nat) ({ cls := "java/util/ArrayDeque", name := "elementAt", desc := "([Ljava/lang/Object;I)Ljava/lang/Object;" } : Jvm.MethodName)) ∈ lw_all := lw_g (lw_at lw_m9 234 rfl) rfl
theorem q2317 : (Jvm.Cond.static ({ cls := "java/util/ArrayDeque", name := "elementAt", desc := "([Ljava/lang/Object;I)Ljava/lang/Object;" } : Jvm.MethodName)) ∈ lw_all := lw_g (lw_at lw_m9 235 rfl) rfl
theorem q2318 : (Jvm.Cond.code ({ cls := "java/util/ArrayDeque", name := "elementAt", desc := "([Ljava/lang/Object;I)Ljava/lang/Object;" } : Jvm.MethodName) prog_52_method_10_code (2 : Nat) (Option.some (Jvm.ClassFile.FieldType.object "java/lang/Object"))) ∈ lw_all := lw_g (lw_at lw_m9 236 rfl) rfl
theorem q2395 : (Jvm.Cond.castable "java/util/ArrayDeque" "java/util/Collection") ∈ lw_tbl := lw_at lw_m10 73 rfl
theorem q2396 : (Jvm.Cond.selects "java/util/ArrayDeque" ({ cls := "java/util/Collection", name := "iterator", desc := "()Ljava/util/Iterator;" } : Jvm.MethodName) ({ cls := "java/util/ArrayDeque", name := "iterator", desc := "()Ljava/util/Iterator;" } : Jvm.MethodName)) ∈ lw_all := lw_g (lw_at lw_m10 74 rfl) rfl
theorem q2397 : (Jvm.Cond.unhidden "java/util/ArrayDeque" "iterator" "()Ljava/util/Iterator;") ∈ lw_tbl := lw_at lw_m10 75 rfl
theorem q2398 : (Jvm.Cond.instanceMethod ({ cls := "java/util/ArrayDeque", name := "iterator", desc := "()Ljava/util/Iterator;" } : Jvm.MethodName)) ∈ lw_all := lw_g (lw_at lw_m10 76 rfl) rfl
theorem q2399 : (Jvm.Cond.publicMethod ({ cls := "java/util/ArrayDeque", name := "iterator", desc := "()Ljava/util/Iterator;" } : Jvm.MethodName)) ∈ lw_tbl := lw_at lw_m10 77 rfl
theorem q2400 : (Jvm.Cond.code ({ cls := "java/util/ArrayDeque", name := "iterator", desc := "()Ljava/util/Iterator;" } : Jvm.MethodName) prog_52_method_39_code (1 : Nat) (Option.some (Jvm.ClassFile.FieldType.object "java/util/Iterator"))) ∈ lw_all := lw_g (lw_at lw_m10 78 rfl) rfl
theorem q2401 : (Jvm.Cond.classLink "java/util/ArrayDeque" (131 : Nat) "java/util/ArrayDeque$DeqIterator") ∈ lw_all := lw_g (lw_at lw_m10 79 rfl) rfl
theorem q2403 : (Jvm.Cond.methodLink "java/util/ArrayDeque" (133 : Nat) ({ cls := "java/util/ArrayDeque$DeqIterator", name := "<init>", desc := "(Ljava/util/ArrayDeque;)V" } : Jvm.MethodName)) ∈ lw_all := lw_g (lw_at lw_m10 81 rfl) rfl
theorem q2408 : (Jvm.Cond.instanceMethod ({ cls := "java/util/ArrayDeque", name := "size", desc := "()I" } : Jvm.MethodName)) ∈ lw_all := lw_g (lw_at lw_m10 86 rfl) rfl
theorem q2409 : (Jvm.Cond.selects "java/util/ArrayDeque" ({ cls := "java/util/ArrayDeque", name := "size", desc := "()I" } : Jvm.MethodName) ({ cls := "java/util/ArrayDeque", name := "size", desc := "()I" } : Jvm.MethodName)) ∈ lw_all := lw_g (lw_at lw_m10 87 rfl) rfl
theorem q2410 : (Jvm.Cond.code ({ cls := "java/util/ArrayDeque", name := "size", desc := "()I" } : Jvm.MethodName) prog_52_method_37_code (1 : Nat) (Option.some Jvm.ClassFile.FieldType.int)) ∈ lw_all := lw_g (lw_at lw_m10 88 rfl) rfl
theorem q2411 : (Jvm.Cond.methodLink "java/util/ArrayDeque" (127 : Nat) ({ cls := "java/util/ArrayDeque", name := "sub", desc := "(III)I" } : Jvm.MethodName)) ∈ lw_all := lw_g (lw_at lw_m10 89 rfl) rfl
theorem q2412 : (Jvm.Cond.static ({ cls := "java/util/ArrayDeque", name := "sub", desc := "(III)I" } : Jvm.MethodName)) ∈ lw_all := lw_g (lw_at lw_m10 90 rfl) rfl
theorem q2413 : (Jvm.Cond.code ({ cls := "java/util/ArrayDeque", name := "sub", desc := "(III)I" } : Jvm.MethodName) prog_52_method_9_code (3 : Nat) (Option.some Jvm.ClassFile.FieldType.int)) ∈ lw_all := lw_g (lw_at lw_m10 91 rfl) rfl
theorem q2590 : (Jvm.Cond.selects "java/util/ArrayDeque" ({ cls := "java/util/AbstractCollection", name := "add", desc := "(Ljava/lang/Object;)Z" } : Jvm.MethodName) ({ cls := "java/util/ArrayDeque", name := "add", desc := "(Ljava/lang/Object;)Z" } : Jvm.MethodName)) ∈ lw_all := lw_g (lw_at lw_m11 28 rfl) rfl
theorem q2591 : (Jvm.Cond.instanceMethod ({ cls := "java/util/ArrayDeque", name := "add", desc := "(Ljava/lang/Object;)Z" } : Jvm.MethodName)) ∈ lw_all := lw_g (lw_at lw_m11 29 rfl) rfl
theorem q2592 : (Jvm.Cond.code ({ cls := "java/util/ArrayDeque", name := "add", desc := "(Ljava/lang/Object;)Z" } : Jvm.MethodName) prog_52_method_28_code (2 : Nat) (Option.some Jvm.ClassFile.FieldType.boolean)) ∈ lw_all := lw_g (lw_at lw_m11 30 rfl) rfl
theorem q2593 : (Jvm.Cond.methodLink "java/util/ArrayDeque" (90 : Nat) ({ cls := "java/util/ArrayDeque", name := "addLast", desc := "(Ljava/lang/Object;)V" } : Jvm.MethodName)) ∈ lw_all := lw_g (lw_at lw_m11 31 rfl) rfl
theorem q3270 : (Jvm.Cond.instanceMethod ({ cls := "java/util/ArrayDeque", name := "clear", desc := "()V" } : Jvm.MethodName)) ∈ lw_all := lw_g (lw_at lw_m13 228 rfl) rfl
theorem q3271 : (Jvm.Cond.selects "java/util/ArrayDeque" ({ cls := "java/util/ArrayDeque", name := "clear", desc := "()V" } : Jvm.MethodName) ({ cls := "java/util/ArrayDeque", name := "clear", desc := "()V" } : Jvm.MethodName)) ∈ lw_all := lw_g (lw_at lw_m13 229 rfl) rfl
theorem q3272 : (Jvm.Cond.code ({ cls := "java/util/ArrayDeque", name := "clear", desc := "()V" } : Jvm.MethodName) prog_52_method_53_code (1 : Nat) (Option.none : Option Jvm.ClassFile.FieldType)) ∈ lw_all := lw_g (lw_at lw_m13 230 rfl) rfl
theorem q3273 : (Jvm.Cond.methodLink "java/util/ArrayDeque" (181 : Nat) ({ cls := "java/util/ArrayDeque", name := "circularClear", desc := "([Ljava/lang/Object;II)V" } : Jvm.MethodName)) ∈ lw_all := lw_g (lw_at lw_m13 231 rfl) rfl
theorem q3274 : (Jvm.Cond.static ({ cls := "java/util/ArrayDeque", name := "circularClear", desc := "([Ljava/lang/Object;II)V" } : Jvm.MethodName)) ∈ lw_all := lw_g (lw_at lw_m13 232 rfl) rfl
theorem q3275 : (Jvm.Cond.code ({ cls := "java/util/ArrayDeque", name := "circularClear", desc := "([Ljava/lang/Object;II)V" } : Jvm.MethodName) prog_52_method_54_code (4 : Nat) (Option.none : Option Jvm.ClassFile.FieldType)) ∈ lw_all := lw_g (lw_at lw_m13 233 rfl) rfl
theorem q3790 : (Jvm.Cond.instanceMethod ({ cls := "java/util/ArrayDeque", name := "removeLast", desc := "()Ljava/lang/Object;" } : Jvm.MethodName)) ∈ lw_all := lw_g (lw_at lw_m16 28 rfl) rfl
theorem q3791 : (Jvm.Cond.selects "java/util/ArrayDeque" ({ cls := "java/util/ArrayDeque", name := "removeLast", desc := "()Ljava/lang/Object;" } : Jvm.MethodName) ({ cls := "java/util/ArrayDeque", name := "removeLast", desc := "()Ljava/lang/Object;" } : Jvm.MethodName)) ∈ lw_all := lw_g (lw_at lw_m16 29 rfl) rfl
theorem q3792 : (Jvm.Cond.code ({ cls := "java/util/ArrayDeque", name := "removeLast", desc := "()Ljava/lang/Object;" } : Jvm.MethodName) prog_52_method_19_code (2 : Nat) (Option.some (Jvm.ClassFile.FieldType.object "java/lang/Object"))) ∈ lw_all := lw_g (lw_at lw_m16 30 rfl) rfl
theorem q3793 : (Jvm.Cond.methodLink "java/util/ArrayDeque" (100 : Nat) ({ cls := "java/util/ArrayDeque", name := "pollLast", desc := "()Ljava/lang/Object;" } : Jvm.MethodName)) ∈ lw_all := lw_g (lw_at lw_m16 31 rfl) rfl
theorem q3794 : (Jvm.Cond.instanceMethod ({ cls := "java/util/ArrayDeque", name := "pollLast", desc := "()Ljava/lang/Object;" } : Jvm.MethodName)) ∈ lw_all := lw_g (lw_at lw_m16 32 rfl) rfl
theorem q3795 : (Jvm.Cond.selects "java/util/ArrayDeque" ({ cls := "java/util/ArrayDeque", name := "pollLast", desc := "()Ljava/lang/Object;" } : Jvm.MethodName) ({ cls := "java/util/ArrayDeque", name := "pollLast", desc := "()Ljava/lang/Object;" } : Jvm.MethodName)) ∈ lw_all := lw_g (lw_at lw_m16 33 rfl) rfl
theorem q3796 : (Jvm.Cond.code ({ cls := "java/util/ArrayDeque", name := "pollLast", desc := "()Ljava/lang/Object;" } : Jvm.MethodName) prog_52_method_21_code (4 : Nat) (Option.some (Jvm.ClassFile.FieldType.object "java/lang/Object"))) ∈ lw_all := lw_g (lw_at lw_m16 34 rfl) rfl
theorem q3797 : (Jvm.Cond.methodLink "java/util/ArrayDeque" (68 : Nat) ({ cls := "java/util/ArrayDeque", name := "dec", desc := "(II)I" } : Jvm.MethodName)) ∈ lw_all := lw_g (lw_at lw_m16 35 rfl) rfl
theorem q3798 : (Jvm.Cond.static ({ cls := "java/util/ArrayDeque", name := "dec", desc := "(II)I" } : Jvm.MethodName)) ∈ lw_all := lw_g (lw_at lw_m16 36 rfl) rfl
theorem q3799 : (Jvm.Cond.code ({ cls := "java/util/ArrayDeque", name := "dec", desc := "(II)I" } : Jvm.MethodName) prog_52_method_7_code (2 : Nat) (Option.some Jvm.ClassFile.FieldType.int)) ∈ lw_all := lw_g (lw_at lw_m16 37 rfl) rfl
theorem q4625 : (Jvm.Cond.castable "java/util/ArrayDeque" "java/lang/Object") ∈ lw_tbl := lw_at lw_m19 143 rfl
theorem q202 : (Jvm.Cond.initialized "java/lang/Enum") ∈ lw_all := lw_g (lw_at lw_m1 40 rfl) rfl
theorem q1044 : (Jvm.Cond.instanceMethod ({ cls := "java/lang/Enum", name := "toString", desc := "()Ljava/lang/String;" } : Jvm.MethodName)) ∈ lw_all := lw_g (lw_at lw_m4 162 rfl) rfl
theorem q1045 : (Jvm.Cond.code ({ cls := "java/lang/Enum", name := "toString", desc := "()Ljava/lang/String;" } : Jvm.MethodName) prog_22_method_4_code (1 : Nat) (Option.some (Jvm.ClassFile.FieldType.object "java/lang/String"))) ∈ lw_all := lw_g (lw_at lw_m4 163 rfl) rfl
theorem q1652 : (Jvm.Cond.instanceMethod ({ cls := "java/lang/Enum", name := "hashCode", desc := "()I" } : Jvm.MethodName)) ∈ lw_all := lw_g (lw_at lw_m7 50 rfl) rfl
theorem q1653 : (Jvm.Cond.code ({ cls := "java/lang/Enum", name := "hashCode", desc := "()I" } : Jvm.MethodName) prog_22_method_6_code (2 : Nat) (Option.some Jvm.ClassFile.FieldType.int)) ∈ lw_all := lw_g (lw_at lw_m7 51 rfl) rfl
theorem q1654 : (Jvm.Cond.methodLink "java/lang/Enum" (20 : Nat) ({ cls := "java/lang/System", name := "identityHashCode", desc := "(Ljava/lang/Object;)I" } : Jvm.MethodName)) ∈ lw_all := lw_g (lw_at lw_m7 52 rfl) rfl
theorem q1747 : (Jvm.Cond.instanceMethod ({ cls := "java/lang/Enum", name := "equals", desc := "(Ljava/lang/Object;)Z" } : Jvm.MethodName)) ∈ lw_all := lw_g (lw_at lw_m7 145 rfl) rfl
theorem q1748 : (Jvm.Cond.code ({ cls := "java/lang/Enum", name := "equals", desc := "(Ljava/lang/Object;)Z" } : Jvm.MethodName) prog_22_method_5_code (2 : Nat) (Option.some Jvm.ClassFile.FieldType.boolean)) ∈ lw_all := lw_g (lw_at lw_m7 146 rfl) rfl
theorem q1801 : (Jvm.Cond.instanceMethod ({ cls := "java/lang/Enum", name := "compareTo", desc := "(Ljava/lang/Object;)I" } : Jvm.MethodName)) ∈ lw_all := lw_g (lw_at lw_m7 199 rfl) rfl
theorem q1802 : (Jvm.Cond.publicMethod ({ cls := "java/lang/Enum", name := "compareTo", desc := "(Ljava/lang/Object;)I" } : Jvm.MethodName)) ∈ lw_tbl := lw_at lw_m7 200 rfl
theorem q1803 : (Jvm.Cond.code ({ cls := "java/lang/Enum", name := "compareTo", desc := "(Ljava/lang/Object;)I" } : Jvm.MethodName) prog_22_method_15_code (2 : Nat) (Option.some Jvm.ClassFile.FieldType.int)) ∈ lw_all := lw_g (lw_at lw_m7 201 rfl) rfl
theorem q1804 : (Jvm.Cond.classLink "java/lang/Enum" (2 : Nat) "java/lang/Enum") ∈ lw_all := lw_g (lw_at lw_m7 202 rfl) rfl
theorem q1805 : (Jvm.Cond.methodLink "java/lang/Enum" (101 : Nat) ({ cls := "java/lang/Enum", name := "compareTo", desc := "(Ljava/lang/Enum;)I" } : Jvm.MethodName)) ∈ lw_all := lw_g (lw_at lw_m7 203 rfl) rfl
theorem q1806 : (Jvm.Cond.instanceMethod ({ cls := "java/lang/Enum", name := "compareTo", desc := "(Ljava/lang/Enum;)I" } : Jvm.MethodName)) ∈ lw_all := lw_g (lw_at lw_m7 204 rfl) rfl
theorem q1807 : (Jvm.Cond.sameMethod "java/lang/Enum" "java/lang/Enum" "compareTo" "(Ljava/lang/Enum;)I") ∈ lw_all := lw_g (lw_at lw_m7 205 rfl) rfl
theorem q1809 : (Jvm.Cond.code ({ cls := "java/lang/Enum", name := "compareTo", desc := "(Ljava/lang/Enum;)I" } : Jvm.MethodName) prog_22_method_8_code (4 : Nat) (Option.some Jvm.ClassFile.FieldType.int)) ∈ lw_all := lw_g (lw_at lw_m7 207 rfl) rfl
theorem q1810 : (Jvm.Cond.methodLink "java/lang/Enum" (29 : Nat) ({ cls := "java/lang/Object", name := "getClass", desc := "()Ljava/lang/Class;" } : Jvm.MethodName)) ∈ lw_all := lw_g (lw_at lw_m7 208 rfl) rfl
theorem q1811 : (Jvm.Cond.methodLink "java/lang/Enum" (33 : Nat) ({ cls := "java/lang/Enum", name := "getDeclaringClass", desc := "()Ljava/lang/Class;" } : Jvm.MethodName)) ∈ lw_all := lw_g (lw_at lw_m7 209 rfl) rfl
theorem q1812 : (Jvm.Cond.instanceMethod ({ cls := "java/lang/Enum", name := "getDeclaringClass", desc := "()Ljava/lang/Class;" } : Jvm.MethodName)) ∈ lw_all := lw_g (lw_at lw_m7 210 rfl) rfl
theorem q1813 : (Jvm.Cond.sameMethod "java/lang/Enum" "java/lang/Enum" "getDeclaringClass" "()Ljava/lang/Class;") ∈ lw_all := lw_g (lw_at lw_m7 211 rfl) rfl
theorem q1815 : (Jvm.Cond.code ({ cls := "java/lang/Enum", name := "getDeclaringClass", desc := "()Ljava/lang/Class;" } : Jvm.MethodName) prog_22_method_9_code (3 : Nat) (Option.some (Jvm.ClassFile.FieldType.object "java/lang/Class"))) ∈ lw_all := lw_g (lw_at lw_m7 213 rfl) rfl
theorem q4665 : (Jvm.Cond.fieldLink "java/lang/Enum" (17 : Nat) "java/lang/Enum" "hash" "I") ∈ lw_all := lw_g (lw_at lw_m19 183 rfl) rfl
theorem q4666 : (Jvm.Cond.fieldLink "java/lang/Enum" (1 : Nat) "java/lang/Enum" "name" "Ljava/lang/String;") ∈ lw_all := lw_g (lw_at lw_m19 184 rfl) rfl
theorem q4667 : (Jvm.Cond.fieldLink "java/lang/Enum" (7 : Nat) "java/lang/Enum" "ordinal" "I") ∈ lw_all := lw_g (lw_at lw_m19 185 rfl) rfl
theorem q205 : (Jvm.Cond.initialized "java/util/ArrayList$Itr") ∈ lw_all := lw_g (lw_at lw_m1 43 rfl) rfl
theorem q585 : (Jvm.Cond.fieldLink "java/util/ArrayList$Itr" (37 : Nat) "java/util/ArrayList" "elementData" "[Ljava/lang/Object;") ∈ lw_all := lw_g (lw_at lw_m2 183 rfl) rfl
theorem q586 : (Jvm.Cond.fieldLinkNest "java/util/ArrayList$Itr" (28 : Nat) "java/util/ArrayList" "size" "I" "java/util/ArrayList") ∈ lw_tbl := lw_at lw_m2 184 rfl
theorem q589 : (Jvm.Cond.fieldLink "java/util/ArrayList$Itr" (17 : Nat) "java/util/ArrayList" "modCount" "I") ∈ lw_all := lw_g (lw_at lw_m2 187 rfl) rfl
theorem q996 : (Jvm.Cond.selects "java/util/ArrayList$Itr" ({ cls := "java/lang/Object", name := "getClass", desc := "()Ljava/lang/Class;" } : Jvm.MethodName) ({ cls := "java/lang/Object", name := "getClass", desc := "()Ljava/lang/Class;" } : Jvm.MethodName)) ∈ lw_all := lw_g (lw_at lw_m4 114 rfl) rfl
theorem q2050 : (Jvm.Cond.instantiable "java/util/ArrayList$Itr" (4 : Nat)) ∈ lw_all := lw_g (lw_at lw_m8 208 rfl) rfl
theorem q2052 : (Jvm.Cond.instanceMethod ({ cls := "java/util/ArrayList$Itr", name := "<init>", desc := "(Ljava/util/ArrayList;)V" } : Jvm.MethodName)) ∈ lw_all := lw_g (lw_at lw_m8 210 rfl) rfl
theorem q2053 : (Jvm.Cond.code ({ cls := "java/util/ArrayList$Itr", name := "<init>", desc := "(Ljava/util/ArrayList;)V" } : Jvm.MethodName) prog_55_method_1_code (2 : Nat) (Option.none : Option Jvm.ClassFile.FieldType)) ∈ lw_all := lw_g (lw_at lw_m8 211 rfl) rfl
theorem q2054 : (Jvm.Cond.methodLink "java/util/ArrayList$Itr" (7 : Nat) ({ cls := "java/lang/Object", name := "<init>", desc := "()V" } : Jvm.MethodName)) ∈ lw_all := lw_g (lw_at lw_m8 212 rfl) rfl
theorem q2055 : (Jvm.Cond.fieldLink "java/util/ArrayList$Itr" (25 : Nat) "java/util/ArrayList$Itr" "cursor" "I") ∈ lw_all := lw_g (lw_at lw_m8 213 rfl) rfl
theorem q2056 : (Jvm.Cond.fieldLink "java/util/ArrayList$Itr" (13 : Nat) "java/util/ArrayList$Itr" "lastRet" "I") ∈ lw_all := lw_g (lw_at lw_m8 214 rfl) rfl
theorem q2057 : (Jvm.Cond.fieldLink "java/util/ArrayList$Itr" (22 : Nat) "java/util/ArrayList$Itr" "expectedModCount" "I") ∈ lw_all := lw_g (lw_at lw_m8 215 rfl) rfl
theorem q2058 : (Jvm.Cond.fieldLink "java/util/ArrayList$Itr" (1 : Nat) "java/util/ArrayList$Itr" "this$0" "Ljava/util/ArrayList;") ∈ lw_all := lw_g (lw_at lw_m8 216 rfl) rfl
theorem q2059 : (Jvm.Cond.lays "java/util/ArrayList$Itr" "java/util/ArrayList$Itr" "cursor" "I") ∈ lw_all := lw_g (lw_at lw_m8 217 rfl) rfl
theorem q2060 : (Jvm.Cond.soleField "java/util/ArrayList$Itr" "cursor") ∈ lw_all := lw_g (lw_at lw_m8 218 rfl) rfl
theorem q2061 : (Jvm.Cond.lays "java/util/ArrayList$Itr" "java/util/ArrayList$Itr" "lastRet" "I") ∈ lw_all := lw_g (lw_at lw_m8 219 rfl) rfl
theorem q2062 : (Jvm.Cond.soleField "java/util/ArrayList$Itr" "lastRet") ∈ lw_all := lw_g (lw_at lw_m8 220 rfl) rfl
theorem q2063 : (Jvm.Cond.lays "java/util/ArrayList$Itr" "java/util/ArrayList$Itr" "expectedModCount" "I") ∈ lw_all := lw_g (lw_at lw_m8 221 rfl) rfl
theorem q2064 : (Jvm.Cond.soleField "java/util/ArrayList$Itr" "expectedModCount") ∈ lw_all := lw_g (lw_at lw_m8 222 rfl) rfl
theorem q2065 : (Jvm.Cond.laysFinal "java/util/ArrayList$Itr" "java/util/ArrayList$Itr" "this$0" "Ljava/util/ArrayList;") ∈ lw_all := lw_g (lw_at lw_m8 223 rfl) rfl
theorem q2066 : (Jvm.Cond.soleField "java/util/ArrayList$Itr" "this$0") ∈ lw_all := lw_g (lw_at lw_m8 224 rfl) rfl
theorem q2067 : (Jvm.Cond.superclass "java/util/ArrayList$Itr" "java/lang/Object") ∈ lw_all := lw_g (lw_at lw_m8 225 rfl) rfl
theorem q2078 : (Jvm.Cond.castable "java/util/ArrayList$Itr" "java/util/Iterator") ∈ lw_tbl := lw_at lw_m8 236 rfl
theorem q2079 : (Jvm.Cond.selects "java/util/ArrayList$Itr" ({ cls := "java/util/Iterator", name := "hasNext", desc := "()Z" } : Jvm.MethodName) ({ cls := "java/util/ArrayList$Itr", name := "hasNext", desc := "()Z" } : Jvm.MethodName)) ∈ lw_all := lw_g (lw_at lw_m8 237 rfl) rfl
theorem q2080 : (Jvm.Cond.unhidden "java/util/ArrayList$Itr" "hasNext" "()Z") ∈ lw_tbl := lw_at lw_m8 238 rfl
theorem q2081 : (Jvm.Cond.instanceMethod ({ cls := "java/util/ArrayList$Itr", name := "hasNext", desc := "()Z" } : Jvm.MethodName)) ∈ lw_all := lw_g (lw_at lw_m8 239 rfl) rfl
theorem q2082 : (Jvm.Cond.publicMethod ({ cls := "java/util/ArrayList$Itr", name := "hasNext", desc := "()Z" } : Jvm.MethodName)) ∈ lw_tbl := lw_at lw_m9 0 rfl
theorem q2083 : (Jvm.Cond.code ({ cls := "java/util/ArrayList$Itr", name := "hasNext", desc := "()Z" } : Jvm.MethodName) prog_55_method_2_code (1 : Nat) (Option.some Jvm.ClassFile.FieldType.boolean)) ∈ lw_all := lw_g (lw_at lw_m9 1 rfl) rfl
theorem q2117 : (Jvm.Cond.selects "java/util/ArrayList$Itr" ({ cls := "java/util/Iterator", name := "next", desc := "()Ljava/lang/Object;" } : Jvm.MethodName) ({ cls := "java/util/ArrayList$Itr", name := "next", desc := "()Ljava/lang/Object;" } : Jvm.MethodName)) ∈ lw_all := lw_g (lw_at lw_m9 35 rfl) rfl
theorem q2118 : (Jvm.Cond.unhidden "java/util/ArrayList$Itr" "next" "()Ljava/lang/Object;") ∈ lw_tbl := lw_at lw_m9 36 rfl
theorem q2119 : (Jvm.Cond.instanceMethod ({ cls := "java/util/ArrayList$Itr", name := "next", desc := "()Ljava/lang/Object;" } : Jvm.MethodName)) ∈ lw_all := lw_g (lw_at lw_m9 37 rfl) rfl
theorem q2120 : (Jvm.Cond.publicMethod ({ cls := "java/util/ArrayList$Itr", name := "next", desc := "()Ljava/lang/Object;" } : Jvm.MethodName)) ∈ lw_tbl := lw_at lw_m9 38 rfl
theorem q2121 : (Jvm.Cond.code ({ cls := "java/util/ArrayList$Itr", name := "next", desc := "()Ljava/lang/Object;" } : Jvm.MethodName) prog_55_method_3_code (3 : Nat) (Option.some (Jvm.ClassFile.FieldType.object "java/lang/Object"))) ∈ lw_all := lw_g (lw_at lw_m9 39 rfl) rfl
theorem q2122 : (Jvm.Cond.methodLink "java/util/ArrayList$Itr" (31 : Nat) ({ cls := "java/util/ArrayList$Itr", name := "checkForComodification", desc := "()V" } : Jvm.MethodName)) ∈ lw_all := lw_g (lw_at lw_m9 40 rfl) rfl
theorem q2123 : (Jvm.Cond.instanceMethod ({ cls := "java/util/ArrayList$Itr", name := "checkForComodification", desc := "()V" } : Jvm.MethodName)) ∈ lw_all := lw_g (lw_at lw_m9 41 rfl) rfl
theorem q2124 : (Jvm.Cond.selects "java/util/ArrayList$Itr" ({ cls := "java/util/ArrayList$Itr", name := "checkForComodification", desc := "()V" } : Jvm.MethodName) ({ cls := "java/util/ArrayList$Itr", name := "checkForComodification", desc := "()V" } : Jvm.MethodName)) ∈ lw_all := lw_g (lw_at lw_m9 42 rfl) rfl
theorem q2125 : (Jvm.Cond.code ({ cls := "java/util/ArrayList$Itr", name := "checkForComodification", desc := "()V" } : Jvm.MethodName) prog_55_method_6_code (1 : Nat) (Option.none : Option Jvm.ClassFile.FieldType)) ∈ lw_all := lw_g (lw_at lw_m9 43 rfl) rfl
theorem q4630 : (Jvm.Cond.castable "java/util/ArrayList$Itr" "java/lang/Object") ∈ lw_tbl := lw_at lw_m19 148 rfl
theorem q208 : (Jvm.Cond.initialized "jdk/internal/misc/Unsafe") ∈ lw_all := lw_g (lw_at lw_m1 46 rfl) rfl
theorem q1012 : (Jvm.Cond.selects "jdk/internal/misc/Unsafe" ({ cls := "java/lang/Object", name := "getClass", desc := "()Ljava/lang/Class;" } : Jvm.MethodName) ({ cls := "java/lang/Object", name := "getClass", desc := "()Ljava/lang/Class;" } : Jvm.MethodName)) ∈ lw_all := lw_g (lw_at lw_m4 130 rfl) rfl
theorem q1074 : (Jvm.Cond.selects "jdk/internal/misc/Unsafe" ({ cls := "java/lang/Object", name := "toString", desc := "()Ljava/lang/String;" } : Jvm.MethodName) ({ cls := "java/lang/Object", name := "toString", desc := "()Ljava/lang/String;" } : Jvm.MethodName)) ∈ lw_all := lw_g (lw_at lw_m4 192 rfl) rfl
theorem q1730 : (Jvm.Cond.selects "jdk/internal/misc/Unsafe" ({ cls := "java/lang/Object", name := "hashCode", desc := "()I" } : Jvm.MethodName) ({ cls := "java/lang/Object", name := "hashCode", desc := "()I" } : Jvm.MethodName)) ∈ lw_all := lw_g (lw_at lw_m7 128 rfl) rfl
theorem q1769 : (Jvm.Cond.selects "jdk/internal/misc/Unsafe" ({ cls := "java/lang/Object", name := "equals", desc := "(Ljava/lang/Object;)Z" } : Jvm.MethodName) ({ cls := "java/lang/Object", name := "equals", desc := "(Ljava/lang/Object;)Z" } : Jvm.MethodName)) ∈ lw_all := lw_g (lw_at lw_m7 167 rfl) rfl
theorem q1850 : (Jvm.Cond.laysStatic "jdk/internal/misc/Unsafe" "ARRAY_BYTE_BASE_OFFSET" "I") ∈ lw_tbl := lw_at lw_m8 8 rfl
theorem q1861 : (Jvm.Cond.instanceMethod ({ cls := "jdk/internal/misc/Unsafe", name := "getLongUnaligned", desc := "(Ljava/lang/Object;J)J" } : Jvm.MethodName)) ∈ lw_all := lw_g (lw_at lw_m8 19 rfl) rfl
theorem q1862 : (Jvm.Cond.selects "jdk/internal/misc/Unsafe" ({ cls := "jdk/internal/misc/Unsafe", name := "getLongUnaligned", desc := "(Ljava/lang/Object;J)J" } : Jvm.MethodName) ({ cls := "jdk/internal/misc/Unsafe", name := "getLongUnaligned", desc := "(Ljava/lang/Object;J)J" } : Jvm.MethodName)) ∈ lw_all := lw_g (lw_at lw_m8 20 rfl) rfl
theorem q1863 : (Jvm.Cond.code ({ cls := "jdk/internal/misc/Unsafe", name := "getLongUnaligned", desc := "(Ljava/lang/Object;J)J" } : Jvm.MethodName) prog_90_method_334_code (4 : Nat) (Option.some Jvm.ClassFile.FieldType.long)) ∈ lw_all := lw_g (lw_at lw_m8 21 rfl) rfl
theorem q1864 : (Jvm.Cond.constantLong "jdk/internal/misc/Unsafe" (696 : Nat) (7 : Int64)) ∈ lw_all := lw_g (lw_at lw_m8 22 rfl) rfl
theorem q1865 : (Jvm.Cond.methodLink "jdk/internal/misc/Unsafe" (27 : Nat) ({ cls := "jdk/internal/misc/Unsafe", name := "getLong", desc := "(Ljava/lang/Object;J)J" } : Jvm.MethodName)) ∈ lw_all := lw_g (lw_at lw_m8 23 rfl) rfl
theorem q1866 : (Jvm.Cond.instanceMethod ({ cls := "jdk/internal/misc/Unsafe", name := "getLong", desc := "(Ljava/lang/Object;J)J" } : Jvm.MethodName)) ∈ lw_all := lw_g (lw_at lw_m8 24 rfl) rfl
theorem q1867 : (Jvm.Cond.selects "jdk/internal/misc/Unsafe" ({ cls := "jdk/internal/misc/Unsafe", name := "getLong", desc := "(Ljava/lang/Object;J)J" } : Jvm.MethodName) ({ cls := "jdk/internal/misc/Unsafe", name := "getLong", desc := "(Ljava/lang/Object;J)J" } : Jvm.MethodName)) ∈ lw_all := lw_g (lw_at lw_m8 25 rfl) rfl
theorem q1868 : (Jvm.Cond.native ({ cls := "jdk/internal/misc/Unsafe", name := "getLong", desc := "(Ljava/lang/Object;J)J" } : Jvm.MethodName)) ∈ lw_all := lw_g (lw_at lw_m8 26 rfl) rfl
theorem q1869 : (Jvm.Cond.constantLong "jdk/internal/misc/Unsafe" (349 : Nat) (3 : Int64)) ∈ lw_all := lw_g (lw_at lw_m8 27 rfl) rfl
theorem q1870 : (Jvm.Cond.methodLink "jdk/internal/misc/Unsafe" (17 : Nat) ({ cls := "jdk/internal/misc/Unsafe", name := "getInt", desc := "(Ljava/lang/Object;J)I" } : Jvm.MethodName)) ∈ lw_all := lw_g (lw_at lw_m8 28 rfl) rfl
theorem q1871 : (Jvm.Cond.instanceMethod ({ cls := "jdk/internal/misc/Unsafe", name := "getInt", desc := "(Ljava/lang/Object;J)I" } : Jvm.MethodName)) ∈ lw_all := lw_g (lw_at lw_m8 29 rfl) rfl
theorem q1872 : (Jvm.Cond.selects "jdk/internal/misc/Unsafe" ({ cls := "jdk/internal/misc/Unsafe", name := "getInt", desc := "(Ljava/lang/Object;J)I" } : Jvm.MethodName) ({ cls := "jdk/internal/misc/Unsafe", name := "getInt", desc := "(Ljava/lang/Object;J)I" } : Jvm.MethodName)) ∈ lw_all := lw_g (lw_at lw_m8 30 rfl) rfl
theorem q1873 : (Jvm.Cond.native ({ cls := "jdk/internal/misc/Unsafe", name := "getInt", desc := "(Ljava/lang/Object;J)I" } : Jvm.MethodName)) ∈ lw_all := lw_g (lw_at lw_m8 31 rfl) rfl
theorem q1874 : (Jvm.Cond.constantLong "jdk/internal/misc/Unsafe" (205 : Nat) (4 : Int64)) ∈ lw_all := lw_g (lw_at lw_m8 32 rfl) rfl
theorem q1875 : (Jvm.Cond.methodLink "jdk/internal/misc/Unsafe" (698 : Nat) ({ cls := "jdk/internal/misc/Unsafe", name := "makeLong", desc := "(II)J" } : Jvm.MethodName)) ∈ lw_all := lw_g (lw_at lw_m8 33 rfl) rfl
theorem q1876 : (Jvm.Cond.static ({ cls := "jdk/internal/misc/Unsafe", name := "makeLong", desc := "(II)J" } : Jvm.MethodName)) ∈ lw_all := lw_g (lw_at lw_m8 34 rfl) rfl
theorem q1877 : (Jvm.Cond.code ({ cls := "jdk/internal/misc/Unsafe", name := "makeLong", desc := "(II)J" } : Jvm.MethodName) prog_90_method_353_code (2 : Nat) (Option.some Jvm.ClassFile.FieldType.long)) ∈ lw_all := lw_g (lw_at lw_m8 35 rfl) rfl
theorem q1878 : (Jvm.Cond.methodLink "jdk/internal/misc/Unsafe" (791 : Nat) ({ cls := "jdk/internal/misc/Unsafe", name := "toUnsignedLong", desc := "(I)J" } : Jvm.MethodName)) ∈ lw_all := lw_g (lw_at lw_m8 36 rfl) rfl
theorem q1879 : (Jvm.Cond.static ({ cls := "jdk/internal/misc/Unsafe", name := "toUnsignedLong", desc := "(I)J" } : Jvm.MethodName)) ∈ lw_all := lw_g (lw_at lw_m8 37 rfl) rfl
theorem q1880 : (Jvm.Cond.code ({ cls := "jdk/internal/misc/Unsafe", name := "toUnsignedLong", desc := "(I)J" } : Jvm.MethodName) prog_90_method_370_code (1 : Nat) (Option.some Jvm.ClassFile.FieldType.long)) ∈ lw_all := lw_g (lw_at lw_m8 38 rfl) rfl
theorem q1881 : (Jvm.Cond.constantLong "jdk/internal/misc/Unsafe" (812 : Nat) (4294967295 : Int64)) ∈ lw_all := lw_g (lw_at lw_m8 39 rfl) rfl
theorem q1882 : (Jvm.Cond.methodLink "jdk/internal/misc/Unsafe" (784 : Nat) ({ cls := "jdk/internal/misc/Unsafe", name := "pickPos", desc := "(II)I" } : Jvm.MethodName)) ∈ lw_all := lw_g (lw_at lw_m8 40 rfl) rfl
theorem q1883 : (Jvm.Cond.static ({ cls := "jdk/internal/misc/Unsafe", name := "pickPos", desc := "(II)I" } : Jvm.MethodName)) ∈ lw_all := lw_g (lw_at lw_m8 41 rfl) rfl
theorem q1884 : (Jvm.Cond.code ({ cls := "jdk/internal/misc/Unsafe", name := "pickPos", desc := "(II)I" } : Jvm.MethodName) prog_90_method_350_code (2 : Nat) (Option.some Jvm.ClassFile.FieldType.int)) ∈ lw_all := lw_g (lw_at lw_m8 42 rfl) rfl
theorem q1885 : (Jvm.Cond.fieldLink "jdk/internal/misc/Unsafe" (351 : Nat) "jdk/internal/misc/UnsafeConstants" "BIG_ENDIAN" "Z") ∈ lw_all := lw_g (lw_at lw_m8 43 rfl) rfl
theorem q1887 : (Jvm.Cond.methodLink "jdk/internal/misc/Unsafe" (47 : Nat) ({ cls := "jdk/internal/misc/Unsafe", name := "getShort", desc := "(Ljava/lang/Object;J)S" } : Jvm.MethodName)) ∈ lw_all := lw_g (lw_at lw_m8 45 rfl) rfl
theorem q1888 : (Jvm.Cond.instanceMethod ({ cls := "jdk/internal/misc/Unsafe", name := "getShort", desc := "(Ljava/lang/Object;J)S" } : Jvm.MethodName)) ∈ lw_all := lw_g (lw_at lw_m8 46 rfl) rfl
theorem q1889 : (Jvm.Cond.selects "jdk/internal/misc/Unsafe" ({ cls := "jdk/internal/misc/Unsafe", name := "getShort", desc := "(Ljava/lang/Object;J)S" } : Jvm.MethodName) ({ cls := "jdk/internal/misc/Unsafe", name := "getShort", desc := "(Ljava/lang/Object;J)S" } : Jvm.MethodName)) ∈ lw_all := lw_g (lw_at lw_m8 47 rfl) rfl
theorem q1890 : (Jvm.Cond.native ({ cls := "jdk/internal/misc/Unsafe", name := "getShort", desc := "(Ljava/lang/Object;J)S" } : Jvm.MethodName)) ∈ lw_all := lw_g (lw_at lw_m8 48 rfl) rfl
theorem q1891 : (Jvm.Cond.constantLong "jdk/internal/misc/Unsafe" (203 : Nat) (2 : Int64)) ∈ lw_all := lw_g (lw_at lw_m8 49 rfl) rfl
theorem q1892 : (Jvm.Cond.constantLong "jdk/internal/misc/Unsafe" (702 : Nat) (6 : Int64)) ∈ lw_all := lw_g (lw_at lw_m8 50 rfl) rfl
theorem q1893 : (Jvm.Cond.methodLink "jdk/internal/misc/Unsafe" (704 : Nat) ({ cls := "jdk/internal/misc/Unsafe", name := "makeLong", desc := "(SSSS)J" } : Jvm.MethodName)) ∈ lw_all := lw_g (lw_at lw_m8 51 rfl) rfl
theorem q1894 : (Jvm.Cond.static ({ cls := "jdk/internal/misc/Unsafe", name := "makeLong", desc := "(SSSS)J" } : Jvm.MethodName)) ∈ lw_all := lw_g (lw_at lw_m8 52 rfl) rfl
theorem q1895 : (Jvm.Cond.code ({ cls := "jdk/internal/misc/Unsafe", name := "makeLong", desc := "(SSSS)J" } : Jvm.MethodName) prog_90_method_352_code (4 : Nat) (Option.some Jvm.ClassFile.FieldType.long)) ∈ lw_all := lw_g (lw_at lw_m8 53 rfl) rfl
theorem q1896 : (Jvm.Cond.methodLink "jdk/internal/misc/Unsafe" (788 : Nat) ({ cls := "jdk/internal/misc/Unsafe", name := "toUnsignedLong", desc := "(S)J" } : Jvm.MethodName)) ∈ lw_all := lw_g (lw_at lw_m8 54 rfl) rfl
theorem q1897 : (Jvm.Cond.static ({ cls := "jdk/internal/misc/Unsafe", name := "toUnsignedLong", desc := "(S)J" } : Jvm.MethodName)) ∈ lw_all := lw_g (lw_at lw_m8 55 rfl) rfl
theorem q1898 : (Jvm.Cond.code ({ cls := "jdk/internal/misc/Unsafe", name := "toUnsignedLong", desc := "(S)J" } : Jvm.MethodName) prog_90_method_369_code (1 : Nat) (Option.some Jvm.ClassFile.FieldType.long)) ∈ lw_all := lw_g (lw_at lw_m8 56 rfl) rfl
theorem q1899 : (Jvm.Cond.constantLong "jdk/internal/misc/Unsafe" (810 : Nat) (65535 : Int64)) ∈ lw_all := lw_g (lw_at lw_m8 57 rfl) rfl
theorem q1900 : (Jvm.Cond.methodLink "jdk/internal/misc/Unsafe" (39 : Nat) ({ cls := "jdk/internal/misc/Unsafe", name := "getByte", desc := "(Ljava/lang/Object;J)B" } : Jvm.MethodName)) ∈ lw_all := lw_g (lw_at lw_m8 58 rfl) rfl
theorem q1901 : (Jvm.Cond.instanceMethod ({ cls := "jdk/internal/misc/Unsafe", name := "getByte", desc := "(Ljava/lang/Object;J)B" } : Jvm.MethodName)) ∈ lw_all := lw_g (lw_at lw_m8 59 rfl) rfl
theorem q1902 : (Jvm.Cond.selects "jdk/internal/misc/Unsafe" ({ cls := "jdk/internal/misc/Unsafe", name := "getByte", desc := "(Ljava/lang/Object;J)B" } : Jvm.MethodName) ({ cls := "jdk/internal/misc/Unsafe", name := "getByte", desc := "(Ljava/lang/Object;J)B" } : Jvm.MethodName)) ∈ lw_all := lw_g (lw_at lw_m8 60 rfl) rfl
theorem q1903 : (Jvm.Cond.native ({ cls := "jdk/internal/misc/Unsafe", name := "getByte", desc := "(Ljava/lang/Object;J)B" } : Jvm.MethodName)) ∈ lw_all := lw_g (lw_at lw_m8 61 rfl) rfl
theorem q1904 : (Jvm.Cond.constantLong "jdk/internal/misc/Unsafe" (707 : Nat) (5 : Int64)) ∈ lw_all := lw_g (lw_at lw_m8 62 rfl) rfl
theorem q1905 : (Jvm.Cond.methodLink "jdk/internal/misc/Unsafe" (709 : Nat) ({ cls := "jdk/internal/misc/Unsafe", name := "makeLong", desc := "(BBBBBBBB)J" } : Jvm.MethodName)) ∈ lw_all := lw_g (lw_at lw_m8 63 rfl) rfl
theorem q1906 : (Jvm.Cond.static ({ cls := "jdk/internal/misc/Unsafe", name := "makeLong", desc := "(BBBBBBBB)J" } : Jvm.MethodName)) ∈ lw_all := lw_g (lw_at lw_m8 64 rfl) rfl
theorem q1907 : (Jvm.Cond.code ({ cls := "jdk/internal/misc/Unsafe", name := "makeLong", desc := "(BBBBBBBB)J" } : Jvm.MethodName) prog_90_method_351_code (8 : Nat) (Option.some Jvm.ClassFile.FieldType.long)) ∈ lw_all := lw_g (lw_at lw_m8 65 rfl) rfl
theorem q1908 : (Jvm.Cond.methodLink "jdk/internal/misc/Unsafe" (781 : Nat) ({ cls := "jdk/internal/misc/Unsafe", name := "toUnsignedLong", desc := "(B)J" } : Jvm.MethodName)) ∈ lw_all := lw_g (lw_at lw_m8 66 rfl) rfl
theorem q1909 : (Jvm.Cond.static ({ cls := "jdk/internal/misc/Unsafe", name := "toUnsignedLong", desc := "(B)J" } : Jvm.MethodName)) ∈ lw_all := lw_g (lw_at lw_m8 67 rfl) rfl
theorem q1910 : (Jvm.Cond.code ({ cls := "jdk/internal/misc/Unsafe", name := "toUnsignedLong", desc := "(B)J" } : Jvm.MethodName) prog_90_method_368_code (1 : Nat) (Option.some Jvm.ClassFile.FieldType.long)) ∈ lw_all := lw_g (lw_at lw_m8 68 rfl) rfl
theorem q1911 : (Jvm.Cond.constantLong "jdk/internal/misc/Unsafe" (808 : Nat) (255 : Int64)) ∈ lw_all := lw_g (lw_at lw_m8 69 rfl) rfl
theorem q1929 : (Jvm.Cond.instanceMethod ({ cls := "jdk/internal/misc/Unsafe", name := "getIntUnaligned", desc := "(Ljava/lang/Object;J)I" } : Jvm.MethodName)) ∈ lw_all := lw_g (lw_at lw_m8 87 rfl) rfl
theorem q1930 : (Jvm.Cond.selects "jdk/internal/misc/Unsafe" ({ cls := "jdk/internal/misc/Unsafe", name := "getIntUnaligned", desc := "(Ljava/lang/Object;J)I" } : Jvm.MethodName) ({ cls := "jdk/internal/misc/Unsafe", name := "getIntUnaligned", desc := "(Ljava/lang/Object;J)I" } : Jvm.MethodName)) ∈ lw_all := lw_g (lw_at lw_m8 88 rfl) rfl
theorem q1931 : (Jvm.Cond.code ({ cls := "jdk/internal/misc/Unsafe", name := "getIntUnaligned", desc := "(Ljava/lang/Object;J)I" } : Jvm.MethodName) prog_90_method_336_code (4 : Nat) (Option.some Jvm.ClassFile.FieldType.int)) ∈ lw_all := lw_g (lw_at lw_m8 89 rfl) rfl
theorem q1932 : (Jvm.Cond.methodLink "jdk/internal/misc/Unsafe" (719 : Nat) ({ cls := "jdk/internal/misc/Unsafe", name := "makeInt", desc := "(SS)I" } : Jvm.MethodName)) ∈ lw_all := lw_g (lw_at lw_m8 90 rfl) rfl
theorem q1933 : (Jvm.Cond.static ({ cls := "jdk/internal/misc/Unsafe", name := "makeInt", desc := "(SS)I" } : Jvm.MethodName)) ∈ lw_all := lw_g (lw_at lw_m8 91 rfl) rfl
theorem q1934 : (Jvm.Cond.code ({ cls := "jdk/internal/misc/Unsafe", name := "makeInt", desc := "(SS)I" } : Jvm.MethodName) prog_90_method_354_code (2 : Nat) (Option.some Jvm.ClassFile.FieldType.int)) ∈ lw_all := lw_g (lw_at lw_m8 92 rfl) rfl
theorem q1935 : (Jvm.Cond.methodLink "jdk/internal/misc/Unsafe" (792 : Nat) ({ cls := "jdk/internal/misc/Unsafe", name := "toUnsignedInt", desc := "(S)I" } : Jvm.MethodName)) ∈ lw_all := lw_g (lw_at lw_m8 93 rfl) rfl
theorem q1936 : (Jvm.Cond.static ({ cls := "jdk/internal/misc/Unsafe", name := "toUnsignedInt", desc := "(S)I" } : Jvm.MethodName)) ∈ lw_all := lw_g (lw_at lw_m8 94 rfl) rfl
theorem q1937 : (Jvm.Cond.code ({ cls := "jdk/internal/misc/Unsafe", name := "toUnsignedInt", desc := "(S)I" } : Jvm.MethodName) prog_90_method_367_code (1 : Nat) (Option.some Jvm.ClassFile.FieldType.int)) ∈ lw_all := lw_g (lw_at lw_m8 95 rfl) rfl
theorem q1938 : (Jvm.Cond.constant "jdk/internal/misc/Unsafe" (374 : Nat) (65535 : Int32)) ∈ lw_all := lw_g (lw_at lw_m8 96 rfl) rfl
theorem q1939 : (Jvm.Cond.methodLink "jdk/internal/misc/Unsafe" (723 : Nat) ({ cls := "jdk/internal/misc/Unsafe", name := "makeInt", desc := "(BBBB)I" } : Jvm.MethodName)) ∈ lw_all := lw_g (lw_at lw_m8 97 rfl) rfl
theorem q1940 : (Jvm.Cond.static ({ cls := "jdk/internal/misc/Unsafe", name := "makeInt", desc := "(BBBB)I" } : Jvm.MethodName)) ∈ lw_all := lw_g (lw_at lw_m8 98 rfl) rfl
theorem q1941 : (Jvm.Cond.code ({ cls := "jdk/internal/misc/Unsafe", name := "makeInt", desc := "(BBBB)I" } : Jvm.MethodName) prog_90_method_355_code (4 : Nat) (Option.some Jvm.ClassFile.FieldType.int)) ∈ lw_all := lw_g (lw_at lw_m8 99 rfl) rfl
theorem q1942 : (Jvm.Cond.methodLink "jdk/internal/misc/Unsafe" (796 : Nat) ({ cls := "jdk/internal/misc/Unsafe", name := "toUnsignedInt", desc := "(B)I" } : Jvm.MethodName)) ∈ lw_all := lw_g (lw_at lw_m8 100 rfl) rfl
theorem q1943 : (Jvm.Cond.static ({ cls := "jdk/internal/misc/Unsafe", name := "toUnsignedInt", desc := "(B)I" } : Jvm.MethodName)) ∈ lw_all := lw_g (lw_at lw_m8 101 rfl) rfl
theorem q1944 : (Jvm.Cond.code ({ cls := "jdk/internal/misc/Unsafe", name := "toUnsignedInt", desc := "(B)I" } : Jvm.MethodName) prog_90_method_366_code (1 : Nat) (Option.some Jvm.ClassFile.FieldType.int)) ∈ lw_all := lw_g (lw_at lw_m8 102 rfl) rfl
theorem q4633 : (Jvm.Cond.castable "jdk/internal/misc/Unsafe" "java/lang/Object") ∈ lw_tbl := lw_at lw_m19 151 rfl
theorem q210 : (Jvm.Cond.initialized "java/lang/Long") ∈ lw_all := lw_g (lw_at lw_m1 48 rfl) rfl
theorem q1915 : (Jvm.Cond.static ({ cls := "java/lang/Long", name := "numberOfLeadingZeros", desc := "(J)I" } : Jvm.MethodName)) ∈ lw_all := lw_g (lw_at lw_m8 73 rfl) rfl
theorem q1916 : (Jvm.Cond.code ({ cls := "java/lang/Long", name := "numberOfLeadingZeros", desc := "(J)I" } : Jvm.MethodName) prog_32_method_48_code (3 : Nat) (Option.some Jvm.ClassFile.FieldType.int)) ∈ lw_all := lw_g (lw_at lw_m8 74 rfl) rfl
theorem q1917 : (Jvm.Cond.methodLink "java/lang/Long" (308 : Nat) ({ cls := "java/lang/Integer", name := "numberOfLeadingZeros", desc := "(I)I" } : Jvm.MethodName)) ∈ lw_all := lw_g (lw_at lw_m8 75 rfl) rfl
theorem q1921 : (Jvm.Cond.static ({ cls := "java/lang/Long", name := "numberOfTrailingZeros", desc := "(J)I" } : Jvm.MethodName)) ∈ lw_all := lw_g (lw_at lw_m8 79 rfl) rfl
theorem q1922 : (Jvm.Cond.code ({ cls := "java/lang/Long", name := "numberOfTrailingZeros", desc := "(J)I" } : Jvm.MethodName) prog_32_method_49_code (3 : Nat) (Option.some Jvm.ClassFile.FieldType.int)) ∈ lw_all := lw_g (lw_at lw_m8 80 rfl) rfl
theorem q1923 : (Jvm.Cond.methodLink "java/lang/Long" (311 : Nat) ({ cls := "java/lang/Integer", name := "numberOfTrailingZeros", desc := "(I)I" } : Jvm.MethodName)) ∈ lw_all := lw_g (lw_at lw_m8 81 rfl) rfl
theorem q212 : (Jvm.Cond.initialized "java/util/HashMap$Node") ∈ lw_all := lw_g (lw_at lw_m1 50 rfl) rfl
theorem q1002 : (Jvm.Cond.selects "java/util/HashMap$Node" ({ cls := "java/lang/Object", name := "getClass", desc := "()Ljava/lang/Class;" } : Jvm.MethodName) ({ cls := "java/lang/Object", name := "getClass", desc := "()Ljava/lang/Class;" } : Jvm.MethodName)) ∈ lw_all := lw_g (lw_at lw_m4 120 rfl) rfl
theorem q2174 : (Jvm.Cond.declares ({ cls := "java/util/HashMap$Node", name := "getKey", desc := "()Ljava/lang/Object;" } : Jvm.MethodName)) ∈ lw_tbl := lw_at lw_m9 92 rfl
theorem q2177 : (Jvm.Cond.instanceMethod ({ cls := "java/util/HashMap$Node", name := "getKey", desc := "()Ljava/lang/Object;" } : Jvm.MethodName)) ∈ lw_all := lw_g (lw_at lw_m9 95 rfl) rfl
theorem q2178 : (Jvm.Cond.code ({ cls := "java/util/HashMap$Node", name := "getKey", desc := "()Ljava/lang/Object;" } : Jvm.MethodName) prog_65_method_2_code (1 : Nat) (Option.some (Jvm.ClassFile.FieldType.object "java/lang/Object"))) ∈ lw_all := lw_g (lw_at lw_m9 96 rfl) rfl
theorem q2648 : (Jvm.Cond.instanceMethod ({ cls := "java/util/HashMap$Node", name := "<init>", desc := "(ILjava/lang/Object;Ljava/lang/Object;Ljava/util/HashMap$Node;)V" } : Jvm.MethodName)) ∈ lw_all := lw_g (lw_at lw_m11 86 rfl) rfl
theorem q2649 : (Jvm.Cond.code ({ cls := "java/util/HashMap$Node", name := "<init>", desc := "(ILjava/lang/Object;Ljava/lang/Object;Ljava/util/HashMap$Node;)V" } : Jvm.MethodName) prog_65_method_1_code (5 : Nat) (Option.none : Option Jvm.ClassFile.FieldType)) ∈ lw_all := lw_g (lw_at lw_m11 87 rfl) rfl
theorem q2650 : (Jvm.Cond.methodLink "java/util/HashMap$Node" (1 : Nat) ({ cls := "java/lang/Object", name := "<init>", desc := "()V" } : Jvm.MethodName)) ∈ lw_all := lw_g (lw_at lw_m11 88 rfl) rfl
theorem q2655 : (Jvm.Cond.fieldLink "java/util/HashMap$Node" (7 : Nat) "java/util/HashMap$Node" "hash" "I") ∈ lw_all := lw_g (lw_at lw_m11 93 rfl) rfl
theorem q2661 : (Jvm.Cond.fieldLink "java/util/HashMap$Node" (13 : Nat) "java/util/HashMap$Node" "key" "Ljava/lang/Object;") ∈ lw_all := lw_g (lw_at lw_m11 99 rfl) rfl
theorem q2668 : (Jvm.Cond.fieldLink "java/util/HashMap$Node" (17 : Nat) "java/util/HashMap$Node" "value" "Ljava/lang/Object;") ∈ lw_all := lw_g (lw_at lw_m11 106 rfl) rfl
theorem q2673 : (Jvm.Cond.fieldLink "java/util/HashMap$Node" (20 : Nat) "java/util/HashMap$Node" "next" "Ljava/util/HashMap$Node;") ∈ lw_all := lw_g (lw_at lw_m11 111 rfl) rfl
theorem q2685 : (Jvm.Cond.soleField "java/util/HashMap$Node" "hash") ∈ lw_all := lw_g (lw_at lw_m11 123 rfl) rfl
theorem q2687 : (Jvm.Cond.soleField "java/util/HashMap$Node" "key") ∈ lw_all := lw_g (lw_at lw_m11 125 rfl) rfl
theorem q2689 : (Jvm.Cond.soleField "java/util/HashMap$Node" "value") ∈ lw_all := lw_g (lw_at lw_m11 127 rfl) rfl
theorem q2691 : (Jvm.Cond.soleField "java/util/HashMap$Node" "next") ∈ lw_all := lw_g (lw_at lw_m11 129 rfl) rfl
theorem q2698 : (Jvm.Cond.instantiable "java/util/HashMap$Node" (4 : Nat)) ∈ lw_all := lw_g (lw_at lw_m11 136 rfl) rfl
theorem q2700 : (Jvm.Cond.laysFinal "java/util/HashMap$Node" "java/util/HashMap$Node" "hash" "I") ∈ lw_all := lw_g (lw_at lw_m11 138 rfl) rfl
theorem q2701 : (Jvm.Cond.laysFinal "java/util/HashMap$Node" "java/util/HashMap$Node" "key" "Ljava/lang/Object;") ∈ lw_all := lw_g (lw_at lw_m11 139 rfl) rfl
theorem q2702 : (Jvm.Cond.lays "java/util/HashMap$Node" "java/util/HashMap$Node" "value" "Ljava/lang/Object;") ∈ lw_all := lw_g (lw_at lw_m11 140 rfl) rfl
theorem q2703 : (Jvm.Cond.lays "java/util/HashMap$Node" "java/util/HashMap$Node" "next" "Ljava/util/HashMap$Node;") ∈ lw_all := lw_g (lw_at lw_m11 141 rfl) rfl
theorem q2704 : (Jvm.Cond.superclass "java/util/HashMap$Node" "java/lang/Object") ∈ lw_all := lw_g (lw_at lw_m11 142 rfl) rfl
theorem q2917 : (Jvm.Cond.castable "java/util/HashMap$Node" "java/util/Map$Entry") ∈ lw_tbl := lw_at lw_m12 115 rfl
theorem q2918 : (Jvm.Cond.selects "java/util/HashMap$Node" ({ cls := "java/util/Map$Entry", name := "getKey", desc := "()Ljava/lang/Object;" } : Jvm.MethodName) ({ cls := "java/util/HashMap$Node", name := "getKey", desc := "()Ljava/lang/Object;" } : Jvm.MethodName)) ∈ lw_all := lw_g (lw_at lw_m12 116 rfl) rfl
theorem q2919 : (Jvm.Cond.unhidden "java/util/HashMap$Node" "getKey" "()Ljava/lang/Object;") ∈ lw_tbl := lw_at lw_m12 117 rfl
theorem q2920 : (Jvm.Cond.publicMethod ({ cls := "java/util/HashMap$Node", name := "getKey", desc := "()Ljava/lang/Object;" } : Jvm.MethodName)) ∈ lw_tbl := lw_at lw_m12 118 rfl
theorem q2931 : (Jvm.Cond.selects "java/util/HashMap$Node" ({ cls := "java/util/Map$Entry", name := "getValue", desc := "()Ljava/lang/Object;" } : Jvm.MethodName) ({ cls := "java/util/HashMap$Node", name := "getValue", desc := "()Ljava/lang/Object;" } : Jvm.MethodName)) ∈ lw_all := lw_g (lw_at lw_m12 129 rfl) rfl
theorem q2932 : (Jvm.Cond.unhidden "java/util/HashMap$Node" "getValue" "()Ljava/lang/Object;") ∈ lw_tbl := lw_at lw_m12 130 rfl
theorem q2933 : (Jvm.Cond.instanceMethod ({ cls := "java/util/HashMap$Node", name := "getValue", desc := "()Ljava/lang/Object;" } : Jvm.MethodName)) ∈ lw_all := lw_g (lw_at lw_m12 131 rfl) rfl
theorem q2934 : (Jvm.Cond.publicMethod ({ cls := "java/util/HashMap$Node", name := "getValue", desc := "()Ljava/lang/Object;" } : Jvm.MethodName)) ∈ lw_tbl := lw_at lw_m12 132 rfl
theorem q2935 : (Jvm.Cond.code ({ cls := "java/util/HashMap$Node", name := "getValue", desc := "()Ljava/lang/Object;" } : Jvm.MethodName) prog_65_method_3_code (1 : Nat) (Option.some (Jvm.ClassFile.FieldType.object "java/lang/Object"))) ∈ lw_all := lw_g (lw_at lw_m12 133 rfl) rfl
theorem q4608 : (Jvm.Cond.castable "java/util/HashMap$Node" "java/lang/Object") ∈ lw_tbl := lw_at lw_m19 126 rfl
theorem q213 : (Jvm.Cond.initialized "java/util/LinkedHashMap$Entry") ∈ lw_all := lw_g (lw_at lw_m1 51 rfl) rfl
theorem q1005 : (Jvm.Cond.selects "java/util/LinkedHashMap$Entry" ({ cls := "java/lang/Object", name := "getClass", desc := "()Ljava/lang/Class;" } : Jvm.MethodName) ({ cls := "java/lang/Object", name := "getClass", desc := "()Ljava/lang/Class;" } : Jvm.MethodName)) ∈ lw_all := lw_g (lw_at lw_m4 123 rfl) rfl
theorem q2173 : (Jvm.Cond.sameMethod "java/util/LinkedHashMap$Entry" "java/util/HashMap$Node" "getKey" "()Ljava/lang/Object;") ∈ lw_all := lw_g (lw_at lw_m9 91 rfl) rfl
theorem q2176 : (Jvm.Cond.selects "java/util/LinkedHashMap$Entry" ({ cls := "java/util/LinkedHashMap$Entry", name := "getKey", desc := "()Ljava/lang/Object;" } : Jvm.MethodName) ({ cls := "java/util/HashMap$Node", name := "getKey", desc := "()Ljava/lang/Object;" } : Jvm.MethodName)) ∈ lw_all := lw_g (lw_at lw_m9 94 rfl) rfl
theorem q2643 : (Jvm.Cond.instantiable "java/util/LinkedHashMap$Entry" (6 : Nat)) ∈ lw_all := lw_g (lw_at lw_m11 81 rfl) rfl
theorem q2645 : (Jvm.Cond.instanceMethod ({ cls := "java/util/LinkedHashMap$Entry", name := "<init>", desc := "(ILjava/lang/Object;Ljava/lang/Object;Ljava/util/HashMap$Node;)V" } : Jvm.MethodName)) ∈ lw_all := lw_g (lw_at lw_m11 83 rfl) rfl
theorem q2646 : (Jvm.Cond.code ({ cls := "java/util/LinkedHashMap$Entry", name := "<init>", desc := "(ILjava/lang/Object;Ljava/lang/Object;Ljava/util/HashMap$Node;)V" } : Jvm.MethodName) prog_70_method_1_code (5 : Nat) (Option.none : Option Jvm.ClassFile.FieldType)) ∈ lw_all := lw_g (lw_at lw_m11 84 rfl) rfl
theorem q2647 : (Jvm.Cond.methodLink "java/util/LinkedHashMap$Entry" (1 : Nat) ({ cls := "java/util/HashMap$Node", name := "<init>", desc := "(ILjava/lang/Object;Ljava/lang/Object;Ljava/util/HashMap$Node;)V" } : Jvm.MethodName)) ∈ lw_all := lw_g (lw_at lw_m11 85 rfl) rfl
theorem q2659 : (Jvm.Cond.sameField "java/util/LinkedHashMap$Entry" "java/util/HashMap$Node" "hash" "I") ∈ lw_all := lw_g (lw_at lw_m11 97 rfl) rfl
theorem q2666 : (Jvm.Cond.sameField "java/util/LinkedHashMap$Entry" "java/util/HashMap$Node" "key" "Ljava/lang/Object;") ∈ lw_all := lw_g (lw_at lw_m11 104 rfl) rfl
theorem q2670 : (Jvm.Cond.sameField "java/util/LinkedHashMap$Entry" "java/util/HashMap$Node" "value" "Ljava/lang/Object;") ∈ lw_all := lw_g (lw_at lw_m11 108 rfl) rfl
theorem q2680 : (Jvm.Cond.lays "java/util/LinkedHashMap$Entry" "java/util/LinkedHashMap$Entry" "before" "Ljava/util/LinkedHashMap$Entry;") ∈ lw_all := lw_g (lw_at lw_m11 118 rfl) rfl
theorem q2681 : (Jvm.Cond.soleField "java/util/LinkedHashMap$Entry" "before") ∈ lw_all := lw_g (lw_at lw_m11 119 rfl) rfl
theorem q2682 : (Jvm.Cond.lays "java/util/LinkedHashMap$Entry" "java/util/LinkedHashMap$Entry" "after" "Ljava/util/LinkedHashMap$Entry;") ∈ lw_all := lw_g (lw_at lw_m11 120 rfl) rfl
theorem q2683 : (Jvm.Cond.soleField "java/util/LinkedHashMap$Entry" "after") ∈ lw_all := lw_g (lw_at lw_m11 121 rfl) rfl
theorem q2684 : (Jvm.Cond.laysFinal "java/util/LinkedHashMap$Entry" "java/util/HashMap$Node" "hash" "I") ∈ lw_all := lw_g (lw_at lw_m11 122 rfl) rfl
theorem q2686 : (Jvm.Cond.laysFinal "java/util/LinkedHashMap$Entry" "java/util/HashMap$Node" "key" "Ljava/lang/Object;") ∈ lw_all := lw_g (lw_at lw_m11 124 rfl) rfl
theorem q2688 : (Jvm.Cond.lays "java/util/LinkedHashMap$Entry" "java/util/HashMap$Node" "value" "Ljava/lang/Object;") ∈ lw_all := lw_g (lw_at lw_m11 126 rfl) rfl
theorem q2690 : (Jvm.Cond.lays "java/util/LinkedHashMap$Entry" "java/util/HashMap$Node" "next" "Ljava/util/HashMap$Node;") ∈ lw_all := lw_g (lw_at lw_m11 128 rfl) rfl
theorem q2692 : (Jvm.Cond.superclass "java/util/LinkedHashMap$Entry" "java/util/HashMap$Node") ∈ lw_all := lw_g (lw_at lw_m11 130 rfl) rfl
theorem q2924 : (Jvm.Cond.castable "java/util/LinkedHashMap$Entry" "java/util/Map$Entry") ∈ lw_tbl := lw_at lw_m12 122 rfl
theorem q2925 : (Jvm.Cond.selects "java/util/LinkedHashMap$Entry" ({ cls := "java/util/Map$Entry", name := "getKey", desc := "()Ljava/lang/Object;" } : Jvm.MethodName) ({ cls := "java/util/HashMap$Node", name := "getKey", desc := "()Ljava/lang/Object;" } : Jvm.MethodName)) ∈ lw_all := lw_g (lw_at lw_m12 123 rfl) rfl
theorem q2926 : (Jvm.Cond.unhidden "java/util/LinkedHashMap$Entry" "getKey" "()Ljava/lang/Object;") ∈ lw_tbl := lw_at lw_m12 124 rfl
theorem q2938 : (Jvm.Cond.selects "java/util/LinkedHashMap$Entry" ({ cls := "java/util/Map$Entry", name := "getValue", desc := "()Ljava/lang/Object;" } : Jvm.MethodName) ({ cls := "java/util/HashMap$Node", name := "getValue", desc := "()Ljava/lang/Object;" } : Jvm.MethodName)) ∈ lw_all := lw_g (lw_at lw_m12 136 rfl) rfl
theorem q2939 : (Jvm.Cond.unhidden "java/util/LinkedHashMap$Entry" "getValue" "()Ljava/lang/Object;") ∈ lw_tbl := lw_at lw_m12 137 rfl
theorem q4635 : (Jvm.Cond.castable "java/util/LinkedHashMap$Entry" "java/lang/Object") ∈ lw_tbl := lw_at lw_m19 153 rfl
theorem q4650 : (Jvm.Cond.castable "java/util/LinkedHashMap$Entry" "java/util/HashMap$Node") ∈ lw_tbl := lw_at lw_m19 168 rfl
theorem q214 : (Jvm.Cond.initialized "java/util/HashMap$TreeNode") ∈ lw_all := lw_g (lw_at lw_m1 52 rfl) rfl
theorem q1003 : (Jvm.Cond.selects "java/util/HashMap$TreeNode" ({ cls := "java/lang/Object", name := "getClass", desc := "()Ljava/lang/Class;" } : Jvm.MethodName) ({ cls := "java/lang/Object", name := "getClass", desc := "()Ljava/lang/Class;" } : Jvm.MethodName)) ∈ lw_all := lw_g (lw_at lw_m4 121 rfl) rfl
theorem q1773 : (Jvm.Cond.instanceMethod ({ cls := "java/util/HashMap$TreeNode", name := "getTreeNode", desc := "(ILjava/lang/Object;)Ljava/util/HashMap$TreeNode;" } : Jvm.MethodName)) ∈ lw_all := lw_g (lw_at lw_m7 171 rfl) rfl
theorem q1774 : (Jvm.Cond.selects "java/util/HashMap$TreeNode" ({ cls := "java/util/HashMap$TreeNode", name := "getTreeNode", desc := "(ILjava/lang/Object;)Ljava/util/HashMap$TreeNode;" } : Jvm.MethodName) ({ cls := "java/util/HashMap$TreeNode", name := "getTreeNode", desc := "(ILjava/lang/Object;)Ljava/util/HashMap$TreeNode;" } : Jvm.MethodName)) ∈ lw_all := lw_g (lw_at lw_m7 172 rfl) rfl
theorem q1775 : (Jvm.Cond.code ({ cls := "java/util/HashMap$TreeNode", name := "getTreeNode", desc := "(ILjava/lang/Object;)Ljava/util/HashMap$TreeNode;" } : Jvm.MethodName) prog_66_method_5_code (3 : Nat) (Option.some (Jvm.ClassFile.FieldType.object "java/util/HashMap$TreeNode"))) ∈ lw_all := lw_g (lw_at lw_m7 173 rfl) rfl
theorem q1776 : (Jvm.Cond.methodLink "java/util/HashMap$TreeNode" (67 : Nat) ({ cls := "java/util/HashMap$TreeNode", name := "root", desc := "()Ljava/util/HashMap$TreeNode;" } : Jvm.MethodName)) ∈ lw_all := lw_g (lw_at lw_m7 174 rfl) rfl
theorem q1777 : (Jvm.Cond.instanceMethod ({ cls := "java/util/HashMap$TreeNode", name := "root", desc := "()Ljava/util/HashMap$TreeNode;" } : Jvm.MethodName)) ∈ lw_all := lw_g (lw_at lw_m7 175 rfl) rfl
theorem q1778 : (Jvm.Cond.selects "java/util/HashMap$TreeNode" ({ cls := "java/util/HashMap$TreeNode", name := "root", desc := "()Ljava/util/HashMap$TreeNode;" } : Jvm.MethodName) ({ cls := "java/util/HashMap$TreeNode", name := "root", desc := "()Ljava/util/HashMap$TreeNode;" } : Jvm.MethodName)) ∈ lw_all := lw_g (lw_at lw_m7 176 rfl) rfl
theorem q1779 : (Jvm.Cond.code ({ cls := "java/util/HashMap$TreeNode", name := "root", desc := "()Ljava/util/HashMap$TreeNode;" } : Jvm.MethodName) prog_66_method_2_code (3 : Nat) (Option.some (Jvm.ClassFile.FieldType.object "java/util/HashMap$TreeNode"))) ∈ lw_all := lw_g (lw_at lw_m7 177 rfl) rfl
theorem q1780 : (Jvm.Cond.methodLink "java/util/HashMap$TreeNode" (63 : Nat) ({ cls := "java/util/HashMap$TreeNode", name := "find", desc := "(ILjava/lang/Object;Ljava/lang/Class;)Ljava/util/HashMap$TreeNode;" } : Jvm.MethodName)) ∈ lw_all := lw_g (lw_at lw_m7 178 rfl) rfl
theorem q1781 : (Jvm.Cond.instanceMethod ({ cls := "java/util/HashMap$TreeNode", name := "find", desc := "(ILjava/lang/Object;Ljava/lang/Class;)Ljava/util/HashMap$TreeNode;" } : Jvm.MethodName)) ∈ lw_all := lw_g (lw_at lw_m7 179 rfl) rfl
theorem q1782 : (Jvm.Cond.selects "java/util/HashMap$TreeNode" ({ cls := "java/util/HashMap$TreeNode", name := "find", desc := "(ILjava/lang/Object;Ljava/lang/Class;)Ljava/util/HashMap$TreeNode;" } : Jvm.MethodName) ({ cls := "java/util/HashMap$TreeNode", name := "find", desc := "(ILjava/lang/Object;Ljava/lang/Class;)Ljava/util/HashMap$TreeNode;" } : Jvm.MethodName)) ∈ lw_all := lw_g (lw_at lw_m7 180 rfl) rfl
theorem q1783 : (Jvm.Cond.code ({ cls := "java/util/HashMap$TreeNode", name := "find", desc := "(ILjava/lang/Object;Ljava/lang/Class;)Ljava/util/HashMap$TreeNode;" } : Jvm.MethodName) prog_66_method_4_code (11 : Nat) (Option.some (Jvm.ClassFile.FieldType.object "java/util/HashMap$TreeNode"))) ∈ lw_all := lw_g (lw_at lw_m7 181 rfl) rfl
theorem q1784 : (Jvm.Cond.methodLink "java/util/HashMap$TreeNode" (49 : Nat) ({ cls := "java/lang/Object", name := "equals", desc := "(Ljava/lang/Object;)Z" } : Jvm.MethodName)) ∈ lw_all := lw_g (lw_at lw_m7 182 rfl) rfl
theorem q1785 : (Jvm.Cond.methodLink "java/util/HashMap$TreeNode" (55 : Nat) ({ cls := "java/util/HashMap", name := "comparableClassFor", desc := "(Ljava/lang/Object;)Ljava/lang/Class;" } : Jvm.MethodName)) ∈ lw_all := lw_g (lw_at lw_m7 183 rfl) rfl
theorem q1791 : (Jvm.Cond.methodLink "java/util/HashMap$TreeNode" (59 : Nat) ({ cls := "java/util/HashMap", name := "compareComparables", desc := "(Ljava/lang/Class;Ljava/lang/Object;Ljava/lang/Object;)I" } : Jvm.MethodName)) ∈ lw_all := lw_g (lw_at lw_m7 189 rfl) rfl
theorem q2175 : (Jvm.Cond.selects "java/util/HashMap$TreeNode" ({ cls := "java/util/LinkedHashMap$Entry", name := "getKey", desc := "()Ljava/lang/Object;" } : Jvm.MethodName) ({ cls := "java/util/HashMap$Node", name := "getKey", desc := "()Ljava/lang/Object;" } : Jvm.MethodName)) ∈ lw_all := lw_g (lw_at lw_m9 93 rfl) rfl
theorem q2627 : (Jvm.Cond.instanceMethod ({ cls := "java/util/HashMap$TreeNode", name := "split", desc := "(Ljava/util/HashMap;[Ljava/util/HashMap$Node;II)V" } : Jvm.MethodName)) ∈ lw_all := lw_g (lw_at lw_m11 65 rfl) rfl
theorem q2628 : (Jvm.Cond.selects "java/util/HashMap$TreeNode" ({ cls := "java/util/HashMap$TreeNode", name := "split", desc := "(Ljava/util/HashMap;[Ljava/util/HashMap$Node;II)V" } : Jvm.MethodName) ({ cls := "java/util/HashMap$TreeNode", name := "split", desc := "(Ljava/util/HashMap;[Ljava/util/HashMap$Node;II)V" } : Jvm.MethodName)) ∈ lw_all := lw_g (lw_at lw_m11 66 rfl) rfl
theorem q2629 : (Jvm.Cond.code ({ cls := "java/util/HashMap$TreeNode", name := "split", desc := "(Ljava/util/HashMap;[Ljava/util/HashMap$Node;II)V" } : Jvm.MethodName) prog_66_method_11_code (14 : Nat) (Option.none : Option Jvm.ClassFile.FieldType)) ∈ lw_all := lw_g (lw_at lw_m11 67 rfl) rfl
theorem q2630 : (Jvm.Cond.classLink "java/util/HashMap$TreeNode" (10 : Nat) "java/util/HashMap$TreeNode") ∈ lw_all := lw_g (lw_at lw_m11 68 rfl) rfl
theorem q2631 : (Jvm.Cond.methodLink "java/util/HashMap$TreeNode" (119 : Nat) ({ cls := "java/util/HashMap$TreeNode", name := "untreeify", desc := "(Ljava/util/HashMap;)Ljava/util/HashMap$Node;" } : Jvm.MethodName)) ∈ lw_all := lw_g (lw_at lw_m11 69 rfl) rfl
theorem q2632 : (Jvm.Cond.instanceMethod ({ cls := "java/util/HashMap$TreeNode", name := "untreeify", desc := "(Ljava/util/HashMap;)Ljava/util/HashMap$Node;" } : Jvm.MethodName)) ∈ lw_all := lw_g (lw_at lw_m11 70 rfl) rfl
theorem q2633 : (Jvm.Cond.selects "java/util/HashMap$TreeNode" ({ cls := "java/util/HashMap$TreeNode", name := "untreeify", desc := "(Ljava/util/HashMap;)Ljava/util/HashMap$Node;" } : Jvm.MethodName) ({ cls := "java/util/HashMap$TreeNode", name := "untreeify", desc := "(Ljava/util/HashMap;)Ljava/util/HashMap$Node;" } : Jvm.MethodName)) ∈ lw_all := lw_g (lw_at lw_m11 71 rfl) rfl
theorem q2634 : (Jvm.Cond.code ({ cls := "java/util/HashMap$TreeNode", name := "untreeify", desc := "(Ljava/util/HashMap;)Ljava/util/HashMap$Node;" } : Jvm.MethodName) prog_66_method_8_code (6 : Nat) (Option.some (Jvm.ClassFile.FieldType.object "java/util/HashMap$Node"))) ∈ lw_all := lw_g (lw_at lw_m11 72 rfl) rfl
theorem q2635 : (Jvm.Cond.methodLink "java/util/HashMap$TreeNode" (108 : Nat) ({ cls := "java/util/HashMap", name := "replacementNode", desc := "(Ljava/util/HashMap$Node;Ljava/util/HashMap$Node;)Ljava/util/HashMap$Node;" } : Jvm.MethodName)) ∈ lw_all := lw_g (lw_at lw_m11 73 rfl) rfl
theorem q2656 : (Jvm.Cond.fieldLink "java/util/HashMap$TreeNode" (15 : Nat) "java/util/HashMap$TreeNode" "hash" "I") ∈ lw_all := lw_g (lw_at lw_m11 94 rfl) rfl
theorem q2657 : (Jvm.Cond.sameField "java/util/HashMap$TreeNode" "java/util/HashMap$Node" "hash" "I") ∈ lw_all := lw_g (lw_at lw_m11 95 rfl) rfl
theorem q2663 : (Jvm.Cond.fieldLink "java/util/HashMap$TreeNode" (45 : Nat) "java/util/HashMap$TreeNode" "key" "Ljava/lang/Object;") ∈ lw_all := lw_g (lw_at lw_m11 101 rfl) rfl
theorem q2664 : (Jvm.Cond.sameField "java/util/HashMap$TreeNode" "java/util/HashMap$Node" "key" "Ljava/lang/Object;") ∈ lw_all := lw_g (lw_at lw_m11 102 rfl) rfl
theorem q2675 : (Jvm.Cond.fieldLink "java/util/HashMap$TreeNode" (22 : Nat) "java/util/HashMap$TreeNode" "next" "Ljava/util/HashMap$Node;") ∈ lw_all := lw_g (lw_at lw_m11 113 rfl) rfl
theorem q2676 : (Jvm.Cond.sameField "java/util/HashMap$TreeNode" "java/util/HashMap$Node" "next" "Ljava/util/HashMap$Node;") ∈ lw_all := lw_g (lw_at lw_m11 114 rfl) rfl
theorem q2677 : (Jvm.Cond.fieldLink "java/util/HashMap$TreeNode" (112 : Nat) "java/util/HashMap$Node" "next" "Ljava/util/HashMap$Node;") ∈ lw_all := lw_g (lw_at lw_m11 115 rfl) rfl
theorem q2705 : (Jvm.Cond.methodLink "java/util/HashMap$TreeNode" (126 : Nat) ({ cls := "java/util/HashMap$TreeNode", name := "treeify", desc := "([Ljava/util/HashMap$Node;)V" } : Jvm.MethodName)) ∈ lw_all := lw_g (lw_at lw_m11 143 rfl) rfl
theorem q2706 : (Jvm.Cond.instanceMethod ({ cls := "java/util/HashMap$TreeNode", name := "treeify", desc := "([Ljava/util/HashMap$Node;)V" } : Jvm.MethodName)) ∈ lw_all := lw_g (lw_at lw_m11 144 rfl) rfl
theorem q2707 : (Jvm.Cond.selects "java/util/HashMap$TreeNode" ({ cls := "java/util/HashMap$TreeNode", name := "treeify", desc := "([Ljava/util/HashMap$Node;)V" } : Jvm.MethodName) ({ cls := "java/util/HashMap$TreeNode", name := "treeify", desc := "([Ljava/util/HashMap$Node;)V" } : Jvm.MethodName)) ∈ lw_all := lw_g (lw_at lw_m11 145 rfl) rfl
theorem q2708 : (Jvm.Cond.code ({ cls := "java/util/HashMap$TreeNode", name := "treeify", desc := "([Ljava/util/HashMap$Node;)V" } : Jvm.MethodName) prog_66_method_7_code (13 : Nat) (Option.none : Option Jvm.ClassFile.FieldType)) ∈ lw_all := lw_g (lw_at lw_m11 146 rfl) rfl
theorem q2709 : (Jvm.Cond.methodLink "java/util/HashMap$TreeNode" (100 : Nat) ({ cls := "java/util/HashMap$TreeNode", name := "balanceInsertion", desc := "(Ljava/util/HashMap$TreeNode;Ljava/util/HashMap$TreeNode;)Ljava/util/HashMap$TreeNode;" } : Jvm.MethodName)) ∈ lw_all := lw_g (lw_at lw_m11 147 rfl) rfl
theorem q2710 : (Jvm.Cond.static ({ cls := "java/util/HashMap$TreeNode", name := "balanceInsertion", desc := "(Ljava/util/HashMap$TreeNode;Ljava/util/HashMap$TreeNode;)Ljava/util/HashMap$TreeNode;" } : Jvm.MethodName)) ∈ lw_all := lw_g (lw_at lw_m11 148 rfl) rfl
theorem q2711 : (Jvm.Cond.code ({ cls := "java/util/HashMap$TreeNode", name := "balanceInsertion", desc := "(Ljava/util/HashMap$TreeNode;Ljava/util/HashMap$TreeNode;)Ljava/util/HashMap$TreeNode;" } : Jvm.MethodName) prog_66_method_14_code (6 : Nat) (Option.some (Jvm.ClassFile.FieldType.object "java/util/HashMap$TreeNode"))) ∈ lw_all := lw_g (lw_at lw_m11 149 rfl) rfl
theorem q2712 : (Jvm.Cond.methodLink "java/util/HashMap$TreeNode" (130 : Nat) ({ cls := "java/util/HashMap$TreeNode", name := "rotateLeft", desc := "(Ljava/util/HashMap$TreeNode;Ljava/util/HashMap$TreeNode;)Ljava/util/HashMap$TreeNode;" } : Jvm.MethodName)) ∈ lw_all := lw_g (lw_at lw_m11 150 rfl) rfl
theorem q2713 : (Jvm.Cond.static ({ cls := "java/util/HashMap$TreeNode", name := "rotateLeft", desc := "(Ljava/util/HashMap$TreeNode;Ljava/util/HashMap$TreeNode;)Ljava/util/HashMap$TreeNode;" } : Jvm.MethodName)) ∈ lw_all := lw_g (lw_at lw_m11 151 rfl) rfl
theorem q2714 : (Jvm.Cond.code ({ cls := "java/util/HashMap$TreeNode", name := "rotateLeft", desc := "(Ljava/util/HashMap$TreeNode;Ljava/util/HashMap$TreeNode;)Ljava/util/HashMap$TreeNode;" } : Jvm.MethodName) prog_66_method_12_code (5 : Nat) (Option.some (Jvm.ClassFile.FieldType.object "java/util/HashMap$TreeNode"))) ∈ lw_all := lw_g (lw_at lw_m11 152 rfl) rfl
theorem q2715 : (Jvm.Cond.methodLink "java/util/HashMap$TreeNode" (133 : Nat) ({ cls := "java/util/HashMap$TreeNode", name := "rotateRight", desc := "(Ljava/util/HashMap$TreeNode;Ljava/util/HashMap$TreeNode;)Ljava/util/HashMap$TreeNode;" } : Jvm.MethodName)) ∈ lw_all := lw_g (lw_at lw_m11 153 rfl) rfl
theorem q2716 : (Jvm.Cond.static ({ cls := "java/util/HashMap$TreeNode", name := "rotateRight", desc := "(Ljava/util/HashMap$TreeNode;Ljava/util/HashMap$TreeNode;)Ljava/util/HashMap$TreeNode;" } : Jvm.MethodName)) ∈ lw_all := lw_g (lw_at lw_m11 154 rfl) rfl
theorem q2717 : (Jvm.Cond.code ({ cls := "java/util/HashMap$TreeNode", name := "rotateRight", desc := "(Ljava/util/HashMap$TreeNode;Ljava/util/HashMap$TreeNode;)Ljava/util/HashMap$TreeNode;" } : Jvm.MethodName) prog_66_method_13_code (5 : Nat) (Option.some (Jvm.ClassFile.FieldType.object "java/util/HashMap$TreeNode"))) ∈ lw_all := lw_g (lw_at lw_m11 155 rfl) rfl
theorem q2718 : (Jvm.Cond.methodLink "java/util/HashMap$TreeNode" (104 : Nat) ({ cls := "java/util/HashMap$TreeNode", name := "moveRootToFront", desc := "([Ljava/util/HashMap$Node;Ljava/util/HashMap$TreeNode;)V" } : Jvm.MethodName)) ∈ lw_all := lw_g (lw_at lw_m11 156 rfl) rfl
theorem q2719 : (Jvm.Cond.static ({ cls := "java/util/HashMap$TreeNode", name := "moveRootToFront", desc := "([Ljava/util/HashMap$Node;Ljava/util/HashMap$TreeNode;)V" } : Jvm.MethodName)) ∈ lw_all := lw_g (lw_at lw_m11 157 rfl) rfl
theorem q2720 : (Jvm.Cond.code ({ cls := "java/util/HashMap$TreeNode", name := "moveRootToFront", desc := "([Ljava/util/HashMap$Node;Ljava/util/HashMap$TreeNode;)V" } : Jvm.MethodName) prog_66_method_3_code (7 : Nat) (Option.none : Option Jvm.ClassFile.FieldType)) ∈ lw_all := lw_g (lw_at lw_m11 158 rfl) rfl
theorem q2721 : (Jvm.Cond.fieldLink "java/util/HashMap$TreeNode" (26 : Nat) "java/util/HashMap$TreeNode" "$assertionsDisabled" "Z") ∈ lw_all := lw_g (lw_at lw_m11 159 rfl) rfl
theorem q2722 : (Jvm.Cond.laysStatic "java/util/HashMap$TreeNode" "$assertionsDisabled" "Z") ∈ lw_tbl := lw_at lw_m11 160 rfl
theorem q2736 : (Jvm.Cond.instanceMethod ({ cls := "java/util/HashMap$TreeNode", name := "putTreeVal", desc := "(Ljava/util/HashMap;[Ljava/util/HashMap$Node;ILjava/lang/Object;Ljava/lang/Object;)Ljava/util/HashMap$TreeNode;" } : Jvm.MethodName)) ∈ lw_all := lw_g (lw_at lw_m11 174 rfl) rfl
theorem q2737 : (Jvm.Cond.selects "java/util/HashMap$TreeNode" ({ cls := "java/util/HashMap$TreeNode", name := "putTreeVal", desc := "(Ljava/util/HashMap;[Ljava/util/HashMap$Node;ILjava/lang/Object;Ljava/lang/Object;)Ljava/util/HashMap$TreeNode;" } : Jvm.MethodName) ({ cls := "java/util/HashMap$TreeNode", name := "putTreeVal", desc := "(Ljava/util/HashMap;[Ljava/util/HashMap$Node;ILjava/lang/Object;Ljava/lang/Object;)Ljava/util/HashMap$TreeNode;" } : Jvm.MethodName)) ∈ lw_all := lw_g (lw_at lw_m11 175 rfl) rfl
theorem q2738 : (Jvm.Cond.code ({ cls := "java/util/HashMap$TreeNode", name := "putTreeVal", desc := "(Ljava/util/HashMap;[Ljava/util/HashMap$Node;ILjava/lang/Object;Ljava/lang/Object;)Ljava/util/HashMap$TreeNode;" } : Jvm.MethodName) prog_66_method_9_code (16 : Nat) (Option.some (Jvm.ClassFile.FieldType.object "java/util/HashMap$TreeNode"))) ∈ lw_all := lw_g (lw_at lw_m11 176 rfl) rfl
theorem q2739 : (Jvm.Cond.methodLink "java/util/HashMap$TreeNode" (115 : Nat) ({ cls := "java/util/HashMap", name := "newTreeNode", desc := "(ILjava/lang/Object;Ljava/lang/Object;Ljava/util/HashMap$Node;)Ljava/util/HashMap$TreeNode;" } : Jvm.MethodName)) ∈ lw_all := lw_g (lw_at lw_m11 177 rfl) rfl
theorem q2747 : (Jvm.Cond.instantiable "java/util/HashMap$TreeNode" (11 : Nat)) ∈ lw_all := lw_g (lw_at lw_m11 185 rfl) rfl
theorem q2749 : (Jvm.Cond.instanceMethod ({ cls := "java/util/HashMap$TreeNode", name := "<init>", desc := "(ILjava/lang/Object;Ljava/lang/Object;Ljava/util/HashMap$Node;)V" } : Jvm.MethodName)) ∈ lw_all := lw_g (lw_at lw_m11 187 rfl) rfl
theorem q2750 : (Jvm.Cond.code ({ cls := "java/util/HashMap$TreeNode", name := "<init>", desc := "(ILjava/lang/Object;Ljava/lang/Object;Ljava/util/HashMap$Node;)V" } : Jvm.MethodName) prog_66_method_1_code (5 : Nat) (Option.none : Option Jvm.ClassFile.FieldType)) ∈ lw_all := lw_g (lw_at lw_m11 188 rfl) rfl
theorem q2751 : (Jvm.Cond.methodLink "java/util/HashMap$TreeNode" (3 : Nat) ({ cls := "java/util/LinkedHashMap$Entry", name := "<init>", desc := "(ILjava/lang/Object;Ljava/lang/Object;Ljava/util/HashMap$Node;)V" } : Jvm.MethodName)) ∈ lw_all := lw_g (lw_at lw_m11 189 rfl) rfl
theorem q2752 : (Jvm.Cond.fieldLink "java/util/HashMap$TreeNode" (9 : Nat) "java/util/HashMap$TreeNode" "parent" "Ljava/util/HashMap$TreeNode;") ∈ lw_all := lw_g (lw_at lw_m11 190 rfl) rfl
theorem q2753 : (Jvm.Cond.fieldLink "java/util/HashMap$TreeNode" (39 : Nat) "java/util/HashMap$TreeNode" "left" "Ljava/util/HashMap$TreeNode;") ∈ lw_all := lw_g (lw_at lw_m11 191 rfl) rfl
theorem q2754 : (Jvm.Cond.fieldLink "java/util/HashMap$TreeNode" (42 : Nat) "java/util/HashMap$TreeNode" "right" "Ljava/util/HashMap$TreeNode;") ∈ lw_all := lw_g (lw_at lw_m11 192 rfl) rfl
theorem q2755 : (Jvm.Cond.fieldLink "java/util/HashMap$TreeNode" (19 : Nat) "java/util/HashMap$TreeNode" "prev" "Ljava/util/HashMap$TreeNode;") ∈ lw_all := lw_g (lw_at lw_m11 193 rfl) rfl
theorem q2757 : (Jvm.Cond.fieldLink "java/util/HashMap$TreeNode" (93 : Nat) "java/util/HashMap$TreeNode" "red" "Z") ∈ lw_all := lw_g (lw_at lw_m11 195 rfl) rfl
theorem q2758 : (Jvm.Cond.lays "java/util/HashMap$TreeNode" "java/util/HashMap$TreeNode" "parent" "Ljava/util/HashMap$TreeNode;") ∈ lw_all := lw_g (lw_at lw_m11 196 rfl) rfl
theorem q2759 : (Jvm.Cond.soleField "java/util/HashMap$TreeNode" "parent") ∈ lw_all := lw_g (lw_at lw_m11 197 rfl) rfl
theorem q2760 : (Jvm.Cond.lays "java/util/HashMap$TreeNode" "java/util/HashMap$TreeNode" "left" "Ljava/util/HashMap$TreeNode;") ∈ lw_all := lw_g (lw_at lw_m11 198 rfl) rfl
theorem q2761 : (Jvm.Cond.soleField "java/util/HashMap$TreeNode" "left") ∈ lw_all := lw_g (lw_at lw_m11 199 rfl) rfl
theorem q2762 : (Jvm.Cond.lays "java/util/HashMap$TreeNode" "java/util/HashMap$TreeNode" "right" "Ljava/util/HashMap$TreeNode;") ∈ lw_all := lw_g (lw_at lw_m11 200 rfl) rfl
theorem q2763 : (Jvm.Cond.soleField "java/util/HashMap$TreeNode" "right") ∈ lw_all := lw_g (lw_at lw_m11 201 rfl) rfl
theorem q2764 : (Jvm.Cond.lays "java/util/HashMap$TreeNode" "java/util/HashMap$TreeNode" "prev" "Ljava/util/HashMap$TreeNode;") ∈ lw_all := lw_g (lw_at lw_m11 202 rfl) rfl
theorem q2765 : (Jvm.Cond.soleField "java/util/HashMap$TreeNode" "prev") ∈ lw_all := lw_g (lw_at lw_m11 203 rfl) rfl
theorem q2766 : (Jvm.Cond.lays "java/util/HashMap$TreeNode" "java/util/HashMap$TreeNode" "red" "Z") ∈ lw_all := lw_g (lw_at lw_m11 204 rfl) rfl
theorem q2767 : (Jvm.Cond.soleField "java/util/HashMap$TreeNode" "red") ∈ lw_all := lw_g (lw_at lw_m11 205 rfl) rfl
theorem q2768 : (Jvm.Cond.lays "java/util/HashMap$TreeNode" "java/util/LinkedHashMap$Entry" "before" "Ljava/util/LinkedHashMap$Entry;") ∈ lw_all := lw_g (lw_at lw_m11 206 rfl) rfl
theorem q2769 : (Jvm.Cond.lays "java/util/HashMap$TreeNode" "java/util/LinkedHashMap$Entry" "after" "Ljava/util/LinkedHashMap$Entry;") ∈ lw_all := lw_g (lw_at lw_m11 207 rfl) rfl
theorem q2770 : (Jvm.Cond.laysFinal "java/util/HashMap$TreeNode" "java/util/HashMap$Node" "hash" "I") ∈ lw_all := lw_g (lw_at lw_m11 208 rfl) rfl
theorem q2771 : (Jvm.Cond.laysFinal "java/util/HashMap$TreeNode" "java/util/HashMap$Node" "key" "Ljava/lang/Object;") ∈ lw_all := lw_g (lw_at lw_m11 209 rfl) rfl
theorem q2772 : (Jvm.Cond.lays "java/util/HashMap$TreeNode" "java/util/HashMap$Node" "value" "Ljava/lang/Object;") ∈ lw_all := lw_g (lw_at lw_m11 210 rfl) rfl
theorem q2773 : (Jvm.Cond.lays "java/util/HashMap$TreeNode" "java/util/HashMap$Node" "next" "Ljava/util/HashMap$Node;") ∈ lw_all := lw_g (lw_at lw_m11 211 rfl) rfl
theorem q2774 : (Jvm.Cond.superclass "java/util/HashMap$TreeNode" "java/util/LinkedHashMap$Entry") ∈ lw_all := lw_g (lw_at lw_m11 212 rfl) rfl
theorem q2921 : (Jvm.Cond.castable "java/util/HashMap$TreeNode" "java/util/Map$Entry") ∈ lw_tbl := lw_at lw_m12 119 rfl
theorem q2922 : (Jvm.Cond.selects "java/util/HashMap$TreeNode" ({ cls := "java/util/Map$Entry", name := "getKey", desc := "()Ljava/lang/Object;" } : Jvm.MethodName) ({ cls := "java/util/HashMap$Node", name := "getKey", desc := "()Ljava/lang/Object;" } : Jvm.MethodName)) ∈ lw_all := lw_g (lw_at lw_m12 120 rfl) rfl
theorem q2923 : (Jvm.Cond.unhidden "java/util/HashMap$TreeNode" "getKey" "()Ljava/lang/Object;") ∈ lw_tbl := lw_at lw_m12 121 rfl
theorem q2936 : (Jvm.Cond.selects "java/util/HashMap$TreeNode" ({ cls := "java/util/Map$Entry", name := "getValue", desc := "()Ljava/lang/Object;" } : Jvm.MethodName) ({ cls := "java/util/HashMap$Node", name := "getValue", desc := "()Ljava/lang/Object;" } : Jvm.MethodName)) ∈ lw_all := lw_g (lw_at lw_m12 134 rfl) rfl
theorem q2937 : (Jvm.Cond.unhidden "java/util/HashMap$TreeNode" "getValue" "()Ljava/lang/Object;") ∈ lw_tbl := lw_at lw_m12 135 rfl
theorem q4607 : (Jvm.Cond.castable "java/util/HashMap$TreeNode" "java/util/LinkedHashMap$Entry") ∈ lw_tbl := lw_at lw_m19 125 rfl
theorem q4636 : (Jvm.Cond.castable "java/util/HashMap$TreeNode" "java/lang/Object") ∈ lw_tbl := lw_at lw_m19 154 rfl
theorem q4651 : (Jvm.Cond.castable "java/util/HashMap$TreeNode" "java/util/HashMap$Node") ∈ lw_tbl := lw_at lw_m19 169 rfl
theorem q215 : (Jvm.Cond.initialized "java/util/ArrayDeque$DeqIterator") ∈ lw_all := lw_g (lw_at lw_m1 53 rfl) rfl
theorem q994 : (Jvm.Cond.selects "java/util/ArrayDeque$DeqIterator" ({ cls := "java/lang/Object", name := "getClass", desc := "()Ljava/lang/Class;" } : Jvm.MethodName) ({ cls := "java/lang/Object", name := "getClass", desc := "()Ljava/lang/Class;" } : Jvm.MethodName)) ∈ lw_all := lw_g (lw_at lw_m4 112 rfl) rfl
theorem q1446 : (Jvm.Cond.fieldLink "java/util/ArrayDeque$DeqIterator" (35 : Nat) "java/util/ArrayDeque" "elements" "[Ljava/lang/Object;") ∈ lw_all := lw_g (lw_at lw_m6 84 rfl) rfl
theorem q1447 : (Jvm.Cond.fieldLink "java/util/ArrayDeque$DeqIterator" (26 : Nat) "java/util/ArrayDeque" "head" "I") ∈ lw_all := lw_g (lw_at lw_m6 85 rfl) rfl
theorem q2072 : (Jvm.Cond.castable "java/util/ArrayDeque$DeqIterator" "java/util/Iterator") ∈ lw_tbl := lw_at lw_m8 230 rfl
theorem q2073 : (Jvm.Cond.selects "java/util/ArrayDeque$DeqIterator" ({ cls := "java/util/Iterator", name := "hasNext", desc := "()Z" } : Jvm.MethodName) ({ cls := "java/util/ArrayDeque$DeqIterator", name := "hasNext", desc := "()Z" } : Jvm.MethodName)) ∈ lw_all := lw_g (lw_at lw_m8 231 rfl) rfl
theorem q2074 : (Jvm.Cond.unhidden "java/util/ArrayDeque$DeqIterator" "hasNext" "()Z") ∈ lw_tbl := lw_at lw_m8 232 rfl
theorem q2075 : (Jvm.Cond.instanceMethod ({ cls := "java/util/ArrayDeque$DeqIterator", name := "hasNext", desc := "()Z" } : Jvm.MethodName)) ∈ lw_all := lw_g (lw_at lw_m8 233 rfl) rfl
theorem q2076 : (Jvm.Cond.publicMethod ({ cls := "java/util/ArrayDeque$DeqIterator", name := "hasNext", desc := "()Z" } : Jvm.MethodName)) ∈ lw_tbl := lw_at lw_m8 234 rfl
theorem q2077 : (Jvm.Cond.code ({ cls := "java/util/ArrayDeque$DeqIterator", name := "hasNext", desc := "()Z" } : Jvm.MethodName) prog_53_method_2_code (1 : Nat) (Option.some Jvm.ClassFile.FieldType.boolean)) ∈ lw_all := lw_g (lw_at lw_m8 235 rfl) rfl
theorem q2106 : (Jvm.Cond.selects "java/util/ArrayDeque$DeqIterator" ({ cls := "java/util/Iterator", name := "next", desc := "()Ljava/lang/Object;" } : Jvm.MethodName) ({ cls := "java/util/ArrayDeque$DeqIterator", name := "next", desc := "()Ljava/lang/Object;" } : Jvm.MethodName)) ∈ lw_all := lw_g (lw_at lw_m9 24 rfl) rfl
theorem q2107 : (Jvm.Cond.unhidden "java/util/ArrayDeque$DeqIterator" "next" "()Ljava/lang/Object;") ∈ lw_tbl := lw_at lw_m9 25 rfl
theorem q2108 : (Jvm.Cond.instanceMethod ({ cls := "java/util/ArrayDeque$DeqIterator", name := "next", desc := "()Ljava/lang/Object;" } : Jvm.MethodName)) ∈ lw_all := lw_g (lw_at lw_m9 26 rfl) rfl
theorem q2109 : (Jvm.Cond.publicMethod ({ cls := "java/util/ArrayDeque$DeqIterator", name := "next", desc := "()Ljava/lang/Object;" } : Jvm.MethodName)) ∈ lw_tbl := lw_at lw_m9 27 rfl
theorem q2110 : (Jvm.Cond.code ({ cls := "java/util/ArrayDeque$DeqIterator", name := "next", desc := "()Ljava/lang/Object;" } : Jvm.MethodName) prog_53_method_3_code (3 : Nat) (Option.some (Jvm.ClassFile.FieldType.object "java/lang/Object"))) ∈ lw_all := lw_g (lw_at lw_m9 28 rfl) rfl
theorem q2111 : (Jvm.Cond.methodLink "java/util/ArrayDeque$DeqIterator" (39 : Nat) ({ cls := "java/util/ArrayDeque", name := "nonNullElementAt", desc := "([Ljava/lang/Object;I)Ljava/lang/Object;" } : Jvm.MethodName)) ∈ lw_all := lw_g (lw_at lw_m9 29 rfl) rfl
theorem q2114 : (Jvm.Cond.methodLink "java/util/ArrayDeque$DeqIterator" (43 : Nat) ({ cls := "java/util/ArrayDeque", name := "inc", desc := "(II)I" } : Jvm.MethodName)) ∈ lw_all := lw_g (lw_at lw_m9 32 rfl) rfl
theorem q2402 : (Jvm.Cond.instantiable "java/util/ArrayDeque$DeqIterator" (4 : Nat)) ∈ lw_all := lw_g (lw_at lw_m10 80 rfl) rfl
theorem q2404 : (Jvm.Cond.instanceMethod ({ cls := "java/util/ArrayDeque$DeqIterator", name := "<init>", desc := "(Ljava/util/ArrayDeque;)V" } : Jvm.MethodName)) ∈ lw_all := lw_g (lw_at lw_m10 82 rfl) rfl
theorem q2405 : (Jvm.Cond.code ({ cls := "java/util/ArrayDeque$DeqIterator", name := "<init>", desc := "(Ljava/util/ArrayDeque;)V" } : Jvm.MethodName) prog_53_method_1_code (2 : Nat) (Option.none : Option Jvm.ClassFile.FieldType)) ∈ lw_all := lw_g (lw_at lw_m10 83 rfl) rfl
theorem q2406 : (Jvm.Cond.methodLink "java/util/ArrayDeque$DeqIterator" (7 : Nat) ({ cls := "java/lang/Object", name := "<init>", desc := "()V" } : Jvm.MethodName)) ∈ lw_all := lw_g (lw_at lw_m10 84 rfl) rfl
theorem q2407 : (Jvm.Cond.methodLink "java/util/ArrayDeque$DeqIterator" (13 : Nat) ({ cls := "java/util/ArrayDeque", name := "size", desc := "()I" } : Jvm.MethodName)) ∈ lw_all := lw_g (lw_at lw_m10 85 rfl) rfl
theorem q2414 : (Jvm.Cond.fieldLink "java/util/ArrayDeque$DeqIterator" (29 : Nat) "java/util/ArrayDeque$DeqIterator" "cursor" "I") ∈ lw_all := lw_g (lw_at lw_m10 92 rfl) rfl
theorem q2415 : (Jvm.Cond.fieldLink "java/util/ArrayDeque$DeqIterator" (19 : Nat) "java/util/ArrayDeque$DeqIterator" "remaining" "I") ∈ lw_all := lw_g (lw_at lw_m10 93 rfl) rfl
theorem q2416 : (Jvm.Cond.fieldLink "java/util/ArrayDeque$DeqIterator" (23 : Nat) "java/util/ArrayDeque$DeqIterator" "lastRet" "I") ∈ lw_all := lw_g (lw_at lw_m10 94 rfl) rfl
theorem q2417 : (Jvm.Cond.fieldLink "java/util/ArrayDeque$DeqIterator" (1 : Nat) "java/util/ArrayDeque$DeqIterator" "this$0" "Ljava/util/ArrayDeque;") ∈ lw_all := lw_g (lw_at lw_m10 95 rfl) rfl
theorem q2418 : (Jvm.Cond.lays "java/util/ArrayDeque$DeqIterator" "java/util/ArrayDeque$DeqIterator" "cursor" "I") ∈ lw_all := lw_g (lw_at lw_m10 96 rfl) rfl
theorem q2419 : (Jvm.Cond.soleField "java/util/ArrayDeque$DeqIterator" "cursor") ∈ lw_all := lw_g (lw_at lw_m10 97 rfl) rfl
theorem q2420 : (Jvm.Cond.lays "java/util/ArrayDeque$DeqIterator" "java/util/ArrayDeque$DeqIterator" "remaining" "I") ∈ lw_all := lw_g (lw_at lw_m10 98 rfl) rfl
theorem q2421 : (Jvm.Cond.soleField "java/util/ArrayDeque$DeqIterator" "remaining") ∈ lw_all := lw_g (lw_at lw_m10 99 rfl) rfl
theorem q2422 : (Jvm.Cond.lays "java/util/ArrayDeque$DeqIterator" "java/util/ArrayDeque$DeqIterator" "lastRet" "I") ∈ lw_all := lw_g (lw_at lw_m10 100 rfl) rfl
theorem q2423 : (Jvm.Cond.soleField "java/util/ArrayDeque$DeqIterator" "lastRet") ∈ lw_all := lw_g (lw_at lw_m10 101 rfl) rfl
theorem q2424 : (Jvm.Cond.laysFinal "java/util/ArrayDeque$DeqIterator" "java/util/ArrayDeque$DeqIterator" "this$0" "Ljava/util/ArrayDeque;") ∈ lw_all := lw_g (lw_at lw_m10 102 rfl) rfl
theorem q2425 : (Jvm.Cond.soleField "java/util/ArrayDeque$DeqIterator" "this$0") ∈ lw_all := lw_g (lw_at lw_m10 103 rfl) rfl
theorem q2426 : (Jvm.Cond.superclass "java/util/ArrayDeque$DeqIterator" "java/lang/Object") ∈ lw_all := lw_g (lw_at lw_m10 104 rfl) rfl
theorem q4637 : (Jvm.Cond.castable "java/util/ArrayDeque$DeqIterator" "java/lang/Object") ∈ lw_tbl := lw_at lw_m19 155 rfl
theorem q169 : (Jvm.Cond.initialized "java/lang/Exception") ∈ lw_all := lw_g (lw_at lw_m1 7 rfl) rfl
theorem q269 : (Jvm.Cond.declares ({ cls := "java/lang/Exception", name := "<init>", desc := "()V" } : Jvm.MethodName)) ∈ lw_tbl := lw_at lw_m1 107 rfl
theorem q270 : (Jvm.Cond.declares ({ cls := "java/lang/Exception", name := "<init>", desc := "(Ljava/lang/String;)V" } : Jvm.MethodName)) ∈ lw_tbl := lw_at lw_m1 108 rfl
theorem q539 : (Jvm.Cond.instanceMethod ({ cls := "java/lang/Exception", name := "<init>", desc := "(Ljava/lang/String;)V" } : Jvm.MethodName)) ∈ lw_all := lw_g (lw_at lw_m2 137 rfl) rfl
theorem q540 : (Jvm.Cond.code ({ cls := "java/lang/Exception", name := "<init>", desc := "(Ljava/lang/String;)V" } : Jvm.MethodName) prog_24_method_2_code (2 : Nat) (Option.none : Option Jvm.ClassFile.FieldType)) ∈ lw_all := lw_g (lw_at lw_m2 138 rfl) rfl
theorem q541 : (Jvm.Cond.methodLink "java/lang/Exception" (7 : Nat) ({ cls := "java/lang/Throwable", name := "<init>", desc := "(Ljava/lang/String;)V" } : Jvm.MethodName)) ∈ lw_all := lw_g (lw_at lw_m2 139 rfl) rfl
theorem q1114 : (Jvm.Cond.instanceMethod ({ cls := "java/lang/Exception", name := "<init>", desc := "(Ljava/lang/String;Ljava/lang/Throwable;)V" } : Jvm.MethodName)) ∈ lw_all := lw_g (lw_at lw_m4 232 rfl) rfl
theorem q1115 : (Jvm.Cond.code ({ cls := "java/lang/Exception", name := "<init>", desc := "(Ljava/lang/String;Ljava/lang/Throwable;)V" } : Jvm.MethodName) prog_24_method_3_code (3 : Nat) (Option.none : Option Jvm.ClassFile.FieldType)) ∈ lw_all := lw_g (lw_at lw_m4 233 rfl) rfl
theorem q1116 : (Jvm.Cond.methodLink "java/lang/Exception" (10 : Nat) ({ cls := "java/lang/Throwable", name := "<init>", desc := "(Ljava/lang/String;Ljava/lang/Throwable;)V" } : Jvm.MethodName)) ∈ lw_all := lw_g (lw_at lw_m4 234 rfl) rfl
theorem q3053 : (Jvm.Cond.instanceMethod ({ cls := "java/lang/Exception", name := "<init>", desc := "()V" } : Jvm.MethodName)) ∈ lw_all := lw_g (lw_at lw_m13 11 rfl) rfl
theorem q3054 : (Jvm.Cond.code ({ cls := "java/lang/Exception", name := "<init>", desc := "()V" } : Jvm.MethodName) prog_24_method_1_code (1 : Nat) (Option.none : Option Jvm.ClassFile.FieldType)) ∈ lw_all := lw_g (lw_at lw_m13 12 rfl) rfl
theorem q3055 : (Jvm.Cond.methodLink "java/lang/Exception" (1 : Nat) ({ cls := "java/lang/Throwable", name := "<init>", desc := "()V" } : Jvm.MethodName)) ∈ lw_all := lw_g (lw_at lw_m13 13 rfl) rfl
theorem q3165 : (Jvm.Cond.instanceMethod ({ cls := "java/lang/Exception", name := "<init>", desc := "(Ljava/lang/String;Ljava/lang/Throwable;ZZ)V" } : Jvm.MethodName)) ∈ lw_all := lw_g (lw_at lw_m13 123 rfl) rfl
theorem q3166 : (Jvm.Cond.code ({ cls := "java/lang/Exception", name := "<init>", desc := "(Ljava/lang/String;Ljava/lang/Throwable;ZZ)V" } : Jvm.MethodName) prog_24_method_5_code (5 : Nat) (Option.none : Option Jvm.ClassFile.FieldType)) ∈ lw_all := lw_g (lw_at lw_m13 124 rfl) rfl
theorem q3167 : (Jvm.Cond.methodLink "java/lang/Exception" (16 : Nat) ({ cls := "java/lang/Throwable", name := "<init>", desc := "(Ljava/lang/String;Ljava/lang/Throwable;ZZ)V" } : Jvm.MethodName)) ∈ lw_all := lw_g (lw_at lw_m13 125 rfl) rfl
theorem q216 : (Jvm.Cond.initialized "java/util/HashMap$HashIterator") ∈ lw_all := lw_g (lw_at lw_m1 54 rfl) rfl
theorem q1137 : (Jvm.Cond.fieldLink "java/util/HashMap$HashIterator" (22 : Nat) "java/util/HashMap" "table" "[Ljava/util/HashMap$Node;") ∈ lw_all := lw_g (lw_at lw_m5 15 rfl) rfl
theorem q1142 : (Jvm.Cond.fieldLink "java/util/HashMap$HashIterator" (36 : Nat) "java/util/HashMap" "size" "I") ∈ lw_all := lw_g (lw_at lw_m5 20 rfl) rfl
theorem q1144 : (Jvm.Cond.fieldLink "java/util/HashMap$HashIterator" (13 : Nat) "java/util/HashMap" "modCount" "I") ∈ lw_all := lw_g (lw_at lw_m5 22 rfl) rfl
theorem q2087 : (Jvm.Cond.instanceMethod ({ cls := "java/util/HashMap$HashIterator", name := "hasNext", desc := "()Z" } : Jvm.MethodName)) ∈ lw_all := lw_g (lw_at lw_m9 5 rfl) rfl
theorem q2088 : (Jvm.Cond.publicMethod ({ cls := "java/util/HashMap$HashIterator", name := "hasNext", desc := "()Z" } : Jvm.MethodName)) ∈ lw_tbl := lw_at lw_m9 6 rfl
theorem q2089 : (Jvm.Cond.code ({ cls := "java/util/HashMap$HashIterator", name := "hasNext", desc := "()Z" } : Jvm.MethodName) prog_62_method_2_code (1 : Nat) (Option.some Jvm.ClassFile.FieldType.boolean)) ∈ lw_all := lw_g (lw_at lw_m9 7 rfl) rfl
theorem q2137 : (Jvm.Cond.declares ({ cls := "java/util/HashMap$HashIterator", name := "nextNode", desc := "()Ljava/util/HashMap$Node;" } : Jvm.MethodName)) ∈ lw_tbl := lw_at lw_m9 55 rfl
theorem q2139 : (Jvm.Cond.instanceMethod ({ cls := "java/util/HashMap$HashIterator", name := "nextNode", desc := "()Ljava/util/HashMap$Node;" } : Jvm.MethodName)) ∈ lw_all := lw_g (lw_at lw_m9 57 rfl) rfl
theorem q2140 : (Jvm.Cond.code ({ cls := "java/util/HashMap$HashIterator", name := "nextNode", desc := "()Ljava/util/HashMap$Node;" } : Jvm.MethodName) prog_62_method_3_code (3 : Nat) (Option.some (Jvm.ClassFile.FieldType.object "java/util/HashMap$Node"))) ∈ lw_all := lw_g (lw_at lw_m9 58 rfl) rfl
theorem q2441 : (Jvm.Cond.instanceMethod ({ cls := "java/util/HashMap$HashIterator", name := "<init>", desc := "(Ljava/util/HashMap;)V" } : Jvm.MethodName)) ∈ lw_all := lw_g (lw_at lw_m10 119 rfl) rfl
theorem q2442 : (Jvm.Cond.code ({ cls := "java/util/HashMap$HashIterator", name := "<init>", desc := "(Ljava/util/HashMap;)V" } : Jvm.MethodName) prog_62_method_1_code (3 : Nat) (Option.none : Option Jvm.ClassFile.FieldType)) ∈ lw_all := lw_g (lw_at lw_m10 120 rfl) rfl
theorem q2443 : (Jvm.Cond.methodLink "java/util/HashMap$HashIterator" (7 : Nat) ({ cls := "java/lang/Object", name := "<init>", desc := "()V" } : Jvm.MethodName)) ∈ lw_all := lw_g (lw_at lw_m10 121 rfl) rfl
theorem q2444 : (Jvm.Cond.fieldLink "java/util/HashMap$HashIterator" (26 : Nat) "java/util/HashMap$HashIterator" "next" "Ljava/util/HashMap$Node;") ∈ lw_all := lw_g (lw_at lw_m10 122 rfl) rfl
theorem q2445 : (Jvm.Cond.fieldLink "java/util/HashMap$HashIterator" (30 : Nat) "java/util/HashMap$HashIterator" "current" "Ljava/util/HashMap$Node;") ∈ lw_all := lw_g (lw_at lw_m10 123 rfl) rfl
theorem q2446 : (Jvm.Cond.fieldLink "java/util/HashMap$HashIterator" (19 : Nat) "java/util/HashMap$HashIterator" "expectedModCount" "I") ∈ lw_all := lw_g (lw_at lw_m10 124 rfl) rfl
theorem q2447 : (Jvm.Cond.fieldLink "java/util/HashMap$HashIterator" (33 : Nat) "java/util/HashMap$HashIterator" "index" "I") ∈ lw_all := lw_g (lw_at lw_m10 125 rfl) rfl
theorem q2448 : (Jvm.Cond.fieldLink "java/util/HashMap$HashIterator" (1 : Nat) "java/util/HashMap$HashIterator" "this$0" "Ljava/util/HashMap;") ∈ lw_all := lw_g (lw_at lw_m10 126 rfl) rfl
theorem q2450 : (Jvm.Cond.soleField "java/util/HashMap$HashIterator" "next") ∈ lw_all := lw_g (lw_at lw_m10 128 rfl) rfl
theorem q2452 : (Jvm.Cond.soleField "java/util/HashMap$HashIterator" "current") ∈ lw_all := lw_g (lw_at lw_m10 130 rfl) rfl
theorem q2454 : (Jvm.Cond.soleField "java/util/HashMap$HashIterator" "expectedModCount") ∈ lw_all := lw_g (lw_at lw_m10 132 rfl) rfl
theorem q2456 : (Jvm.Cond.soleField "java/util/HashMap$HashIterator" "index") ∈ lw_all := lw_g (lw_at lw_m10 134 rfl) rfl
theorem q2458 : (Jvm.Cond.soleField "java/util/HashMap$HashIterator" "this$0") ∈ lw_all := lw_g (lw_at lw_m10 136 rfl) rfl
theorem q2674 : (Jvm.Cond.fieldLink "java/util/HashMap$HashIterator" (45 : Nat) "java/util/HashMap$Node" "next" "Ljava/util/HashMap$Node;") ∈ lw_all := lw_g (lw_at lw_m11 112 rfl) rfl
theorem q217 : (Jvm.Cond.initialized "java/util/HashMap$EntryIterator") ∈ lw_all := lw_g (lw_at lw_m1 55 rfl) rfl
theorem q998 : (Jvm.Cond.selects "java/util/HashMap$EntryIterator" ({ cls := "java/lang/Object", name := "getClass", desc := "()Ljava/lang/Class;" } : Jvm.MethodName) ({ cls := "java/lang/Object", name := "getClass", desc := "()Ljava/lang/Class;" } : Jvm.MethodName)) ∈ lw_all := lw_g (lw_at lw_m4 116 rfl) rfl
theorem q2084 : (Jvm.Cond.castable "java/util/HashMap$EntryIterator" "java/util/Iterator") ∈ lw_tbl := lw_at lw_m9 2 rfl
theorem q2085 : (Jvm.Cond.selects "java/util/HashMap$EntryIterator" ({ cls := "java/util/Iterator", name := "hasNext", desc := "()Z" } : Jvm.MethodName) ({ cls := "java/util/HashMap$HashIterator", name := "hasNext", desc := "()Z" } : Jvm.MethodName)) ∈ lw_all := lw_g (lw_at lw_m9 3 rfl) rfl
theorem q2086 : (Jvm.Cond.unhidden "java/util/HashMap$EntryIterator" "hasNext" "()Z") ∈ lw_tbl := lw_at lw_m9 4 rfl
theorem q2126 : (Jvm.Cond.selects "java/util/HashMap$EntryIterator" ({ cls := "java/util/Iterator", name := "next", desc := "()Ljava/lang/Object;" } : Jvm.MethodName) ({ cls := "java/util/HashMap$EntryIterator", name := "next", desc := "()Ljava/lang/Object;" } : Jvm.MethodName)) ∈ lw_all := lw_g (lw_at lw_m9 44 rfl) rfl
theorem q2127 : (Jvm.Cond.unhidden "java/util/HashMap$EntryIterator" "next" "()Ljava/lang/Object;") ∈ lw_tbl := lw_at lw_m9 45 rfl
theorem q2128 : (Jvm.Cond.instanceMethod ({ cls := "java/util/HashMap$EntryIterator", name := "next", desc := "()Ljava/lang/Object;" } : Jvm.MethodName)) ∈ lw_all := lw_g (lw_at lw_m9 46 rfl) rfl
theorem q2129 : (Jvm.Cond.publicMethod ({ cls := "java/util/HashMap$EntryIterator", name := "next", desc := "()Ljava/lang/Object;" } : Jvm.MethodName)) ∈ lw_tbl := lw_at lw_m9 47 rfl
theorem q2130 : (Jvm.Cond.code ({ cls := "java/util/HashMap$EntryIterator", name := "next", desc := "()Ljava/lang/Object;" } : Jvm.MethodName) prog_60_method_3_code (1 : Nat) (Option.some (Jvm.ClassFile.FieldType.object "java/lang/Object"))) ∈ lw_all := lw_g (lw_at lw_m9 48 rfl) rfl
theorem q2131 : (Jvm.Cond.methodLink "java/util/HashMap$EntryIterator" (13 : Nat) ({ cls := "java/util/HashMap$EntryIterator", name := "next", desc := "()Ljava/util/Map$Entry;" } : Jvm.MethodName)) ∈ lw_all := lw_g (lw_at lw_m9 49 rfl) rfl
theorem q2132 : (Jvm.Cond.instanceMethod ({ cls := "java/util/HashMap$EntryIterator", name := "next", desc := "()Ljava/util/Map$Entry;" } : Jvm.MethodName)) ∈ lw_all := lw_g (lw_at lw_m9 50 rfl) rfl
theorem q2133 : (Jvm.Cond.selects "java/util/HashMap$EntryIterator" ({ cls := "java/util/HashMap$EntryIterator", name := "next", desc := "()Ljava/util/Map$Entry;" } : Jvm.MethodName) ({ cls := "java/util/HashMap$EntryIterator", name := "next", desc := "()Ljava/util/Map$Entry;" } : Jvm.MethodName)) ∈ lw_all := lw_g (lw_at lw_m9 51 rfl) rfl
theorem q2134 : (Jvm.Cond.code ({ cls := "java/util/HashMap$EntryIterator", name := "next", desc := "()Ljava/util/Map$Entry;" } : Jvm.MethodName) prog_60_method_2_code (1 : Nat) (Option.some (Jvm.ClassFile.FieldType.object "java/util/Map$Entry"))) ∈ lw_all := lw_g (lw_at lw_m9 52 rfl) rfl
theorem q2135 : (Jvm.Cond.methodLink "java/util/HashMap$EntryIterator" (7 : Nat) ({ cls := "java/util/HashMap$EntryIterator", name := "nextNode", desc := "()Ljava/util/HashMap$Node;" } : Jvm.MethodName)) ∈ lw_all := lw_g (lw_at lw_m9 53 rfl) rfl
theorem q2136 : (Jvm.Cond.sameMethod "java/util/HashMap$EntryIterator" "java/util/HashMap$HashIterator" "nextNode" "()Ljava/util/HashMap$Node;") ∈ lw_all := lw_g (lw_at lw_m9 54 rfl) rfl
theorem q2138 : (Jvm.Cond.selects "java/util/HashMap$EntryIterator" ({ cls := "java/util/HashMap$EntryIterator", name := "nextNode", desc := "()Ljava/util/HashMap$Node;" } : Jvm.MethodName) ({ cls := "java/util/HashMap$HashIterator", name := "nextNode", desc := "()Ljava/util/HashMap$Node;" } : Jvm.MethodName)) ∈ lw_all := lw_g (lw_at lw_m9 56 rfl) rfl
theorem q2436 : (Jvm.Cond.instantiable "java/util/HashMap$EntryIterator" (5 : Nat)) ∈ lw_all := lw_g (lw_at lw_m10 114 rfl) rfl
theorem q2438 : (Jvm.Cond.instanceMethod ({ cls := "java/util/HashMap$EntryIterator", name := "<init>", desc := "(Ljava/util/HashMap;)V" } : Jvm.MethodName)) ∈ lw_all := lw_g (lw_at lw_m10 116 rfl) rfl
theorem q2439 : (Jvm.Cond.code ({ cls := "java/util/HashMap$EntryIterator", name := "<init>", desc := "(Ljava/util/HashMap;)V" } : Jvm.MethodName) prog_60_method_1_code (2 : Nat) (Option.none : Option Jvm.ClassFile.FieldType)) ∈ lw_all := lw_g (lw_at lw_m10 117 rfl) rfl
theorem q2440 : (Jvm.Cond.methodLink "java/util/HashMap$EntryIterator" (1 : Nat) ({ cls := "java/util/HashMap$HashIterator", name := "<init>", desc := "(Ljava/util/HashMap;)V" } : Jvm.MethodName)) ∈ lw_all := lw_g (lw_at lw_m10 118 rfl) rfl
theorem q2449 : (Jvm.Cond.lays "java/util/HashMap$EntryIterator" "java/util/HashMap$HashIterator" "next" "Ljava/util/HashMap$Node;") ∈ lw_all := lw_g (lw_at lw_m10 127 rfl) rfl
theorem q2451 : (Jvm.Cond.lays "java/util/HashMap$EntryIterator" "java/util/HashMap$HashIterator" "current" "Ljava/util/HashMap$Node;") ∈ lw_all := lw_g (lw_at lw_m10 129 rfl) rfl
theorem q2453 : (Jvm.Cond.lays "java/util/HashMap$EntryIterator" "java/util/HashMap$HashIterator" "expectedModCount" "I") ∈ lw_all := lw_g (lw_at lw_m10 131 rfl) rfl
theorem q2455 : (Jvm.Cond.lays "java/util/HashMap$EntryIterator" "java/util/HashMap$HashIterator" "index" "I") ∈ lw_all := lw_g (lw_at lw_m10 133 rfl) rfl
theorem q2457 : (Jvm.Cond.laysFinal "java/util/HashMap$EntryIterator" "java/util/HashMap$HashIterator" "this$0" "Ljava/util/HashMap;") ∈ lw_all := lw_g (lw_at lw_m10 135 rfl) rfl
theorem q2459 : (Jvm.Cond.superclass "java/util/HashMap$EntryIterator" "java/util/HashMap$HashIterator") ∈ lw_all := lw_g (lw_at lw_m10 137 rfl) rfl
theorem q4644 : (Jvm.Cond.castable "java/util/HashMap$EntryIterator" "java/lang/Object") ∈ lw_tbl := lw_at lw_m19 162 rfl
theorem q218 : (Jvm.Cond.initialized "java/util/HashMap$KeyIterator") ∈ lw_all := lw_g (lw_at lw_m1 56 rfl) rfl
theorem q1000 : (Jvm.Cond.selects "java/util/HashMap$KeyIterator" ({ cls := "java/lang/Object", name := "getClass", desc := "()Ljava/lang/Class;" } : Jvm.MethodName) ({ cls := "java/lang/Object", name := "getClass", desc := "()Ljava/lang/Class;" } : Jvm.MethodName)) ∈ lw_all := lw_g (lw_at lw_m4 118 rfl) rfl
theorem q2090 : (Jvm.Cond.castable "java/util/HashMap$KeyIterator" "java/util/Iterator") ∈ lw_tbl := lw_at lw_m9 8 rfl
theorem q2091 : (Jvm.Cond.selects "java/util/HashMap$KeyIterator" ({ cls := "java/util/Iterator", name := "hasNext", desc := "()Z" } : Jvm.MethodName) ({ cls := "java/util/HashMap$HashIterator", name := "hasNext", desc := "()Z" } : Jvm.MethodName)) ∈ lw_all := lw_g (lw_at lw_m9 9 rfl) rfl
theorem q2092 : (Jvm.Cond.unhidden "java/util/HashMap$KeyIterator" "hasNext" "()Z") ∈ lw_tbl := lw_at lw_m9 10 rfl
theorem q2141 : (Jvm.Cond.selects "java/util/HashMap$KeyIterator" ({ cls := "java/util/Iterator", name := "next", desc := "()Ljava/lang/Object;" } : Jvm.MethodName) ({ cls := "java/util/HashMap$KeyIterator", name := "next", desc := "()Ljava/lang/Object;" } : Jvm.MethodName)) ∈ lw_all := lw_g (lw_at lw_m9 59 rfl) rfl
theorem q2142 : (Jvm.Cond.unhidden "java/util/HashMap$KeyIterator" "next" "()Ljava/lang/Object;") ∈ lw_tbl := lw_at lw_m9 60 rfl
theorem q2143 : (Jvm.Cond.instanceMethod ({ cls := "java/util/HashMap$KeyIterator", name := "next", desc := "()Ljava/lang/Object;" } : Jvm.MethodName)) ∈ lw_all := lw_g (lw_at lw_m9 61 rfl) rfl
theorem q2144 : (Jvm.Cond.publicMethod ({ cls := "java/util/HashMap$KeyIterator", name := "next", desc := "()Ljava/lang/Object;" } : Jvm.MethodName)) ∈ lw_tbl := lw_at lw_m9 62 rfl
theorem q2145 : (Jvm.Cond.code ({ cls := "java/util/HashMap$KeyIterator", name := "next", desc := "()Ljava/lang/Object;" } : Jvm.MethodName) prog_63_method_2_code (1 : Nat) (Option.some (Jvm.ClassFile.FieldType.object "java/lang/Object"))) ∈ lw_all := lw_g (lw_at lw_m9 63 rfl) rfl
theorem q2146 : (Jvm.Cond.methodLink "java/util/HashMap$KeyIterator" (7 : Nat) ({ cls := "java/util/HashMap$KeyIterator", name := "nextNode", desc := "()Ljava/util/HashMap$Node;" } : Jvm.MethodName)) ∈ lw_all := lw_g (lw_at lw_m9 64 rfl) rfl
theorem q2147 : (Jvm.Cond.sameMethod "java/util/HashMap$KeyIterator" "java/util/HashMap$HashIterator" "nextNode" "()Ljava/util/HashMap$Node;") ∈ lw_all := lw_g (lw_at lw_m9 65 rfl) rfl
theorem q2148 : (Jvm.Cond.selects "java/util/HashMap$KeyIterator" ({ cls := "java/util/HashMap$KeyIterator", name := "nextNode", desc := "()Ljava/util/HashMap$Node;" } : Jvm.MethodName) ({ cls := "java/util/HashMap$HashIterator", name := "nextNode", desc := "()Ljava/util/HashMap$Node;" } : Jvm.MethodName)) ∈ lw_all := lw_g (lw_at lw_m9 66 rfl) rfl
theorem q2467 : (Jvm.Cond.instantiable "java/util/HashMap$KeyIterator" (5 : Nat)) ∈ lw_all := lw_g (lw_at lw_m10 145 rfl) rfl
theorem q2469 : (Jvm.Cond.instanceMethod ({ cls := "java/util/HashMap$KeyIterator", name := "<init>", desc := "(Ljava/util/HashMap;)V" } : Jvm.MethodName)) ∈ lw_all := lw_g (lw_at lw_m10 147 rfl) rfl
theorem q2470 : (Jvm.Cond.code ({ cls := "java/util/HashMap$KeyIterator", name := "<init>", desc := "(Ljava/util/HashMap;)V" } : Jvm.MethodName) prog_63_method_1_code (2 : Nat) (Option.none : Option Jvm.ClassFile.FieldType)) ∈ lw_all := lw_g (lw_at lw_m10 148 rfl) rfl
theorem q2471 : (Jvm.Cond.methodLink "java/util/HashMap$KeyIterator" (1 : Nat) ({ cls := "java/util/HashMap$HashIterator", name := "<init>", desc := "(Ljava/util/HashMap;)V" } : Jvm.MethodName)) ∈ lw_all := lw_g (lw_at lw_m10 149 rfl) rfl
theorem q2472 : (Jvm.Cond.lays "java/util/HashMap$KeyIterator" "java/util/HashMap$HashIterator" "next" "Ljava/util/HashMap$Node;") ∈ lw_all := lw_g (lw_at lw_m10 150 rfl) rfl
theorem q2473 : (Jvm.Cond.lays "java/util/HashMap$KeyIterator" "java/util/HashMap$HashIterator" "current" "Ljava/util/HashMap$Node;") ∈ lw_all := lw_g (lw_at lw_m10 151 rfl) rfl
theorem q2474 : (Jvm.Cond.lays "java/util/HashMap$KeyIterator" "java/util/HashMap$HashIterator" "expectedModCount" "I") ∈ lw_all := lw_g (lw_at lw_m10 152 rfl) rfl
theorem q2475 : (Jvm.Cond.lays "java/util/HashMap$KeyIterator" "java/util/HashMap$HashIterator" "index" "I") ∈ lw_all := lw_g (lw_at lw_m10 153 rfl) rfl
theorem q2476 : (Jvm.Cond.laysFinal "java/util/HashMap$KeyIterator" "java/util/HashMap$HashIterator" "this$0" "Ljava/util/HashMap;") ∈ lw_all := lw_g (lw_at lw_m10 154 rfl) rfl
theorem q2477 : (Jvm.Cond.superclass "java/util/HashMap$KeyIterator" "java/util/HashMap$HashIterator") ∈ lw_all := lw_g (lw_at lw_m10 155 rfl) rfl
theorem q2662 : (Jvm.Cond.fieldLink "java/util/HashMap$KeyIterator" (13 : Nat) "java/util/HashMap$Node" "key" "Ljava/lang/Object;") ∈ lw_all := lw_g (lw_at lw_m11 100 rfl) rfl
theorem q4640 : (Jvm.Cond.castable "java/util/HashMap$KeyIterator" "java/lang/Object") ∈ lw_tbl := lw_at lw_m19 158 rfl
theorem q219 : (Jvm.Cond.initialized "java/util/LinkedHashMap$LinkedHashIterator") ∈ lw_all := lw_g (lw_at lw_m1 57 rfl) rfl
theorem q1132 : (Jvm.Cond.fieldLink "java/util/LinkedHashMap$LinkedHashIterator" (23 : Nat) "java/util/LinkedHashMap" "head" "Ljava/util/LinkedHashMap$Entry;") ∈ lw_all := lw_g (lw_at lw_m5 10 rfl) rfl
theorem q1133 : (Jvm.Cond.fieldLink "java/util/LinkedHashMap$LinkedHashIterator" (17 : Nat) "java/util/LinkedHashMap" "tail" "Ljava/util/LinkedHashMap$Entry;") ∈ lw_all := lw_g (lw_at lw_m5 11 rfl) rfl
theorem q1145 : (Jvm.Cond.fieldLink "java/util/LinkedHashMap$LinkedHashIterator" (29 : Nat) "java/util/LinkedHashMap" "modCount" "I") ∈ lw_all := lw_g (lw_at lw_m5 23 rfl) rfl
theorem q2096 : (Jvm.Cond.instanceMethod ({ cls := "java/util/LinkedHashMap$LinkedHashIterator", name := "hasNext", desc := "()Z" } : Jvm.MethodName)) ∈ lw_all := lw_g (lw_at lw_m9 14 rfl) rfl
theorem q2097 : (Jvm.Cond.publicMethod ({ cls := "java/util/LinkedHashMap$LinkedHashIterator", name := "hasNext", desc := "()Z" } : Jvm.MethodName)) ∈ lw_tbl := lw_at lw_m9 15 rfl
theorem q2098 : (Jvm.Cond.code ({ cls := "java/util/LinkedHashMap$LinkedHashIterator", name := "hasNext", desc := "()Z" } : Jvm.MethodName) prog_73_method_2_code (1 : Nat) (Option.some Jvm.ClassFile.FieldType.boolean)) ∈ lw_all := lw_g (lw_at lw_m9 16 rfl) rfl
theorem q2160 : (Jvm.Cond.declares ({ cls := "java/util/LinkedHashMap$LinkedHashIterator", name := "nextNode", desc := "()Ljava/util/LinkedHashMap$Entry;" } : Jvm.MethodName)) ∈ lw_tbl := lw_at lw_m9 78 rfl
theorem q2162 : (Jvm.Cond.instanceMethod ({ cls := "java/util/LinkedHashMap$LinkedHashIterator", name := "nextNode", desc := "()Ljava/util/LinkedHashMap$Entry;" } : Jvm.MethodName)) ∈ lw_all := lw_g (lw_at lw_m9 80 rfl) rfl
theorem q2163 : (Jvm.Cond.code ({ cls := "java/util/LinkedHashMap$LinkedHashIterator", name := "nextNode", desc := "()Ljava/util/LinkedHashMap$Entry;" } : Jvm.MethodName) prog_73_method_3_code (2 : Nat) (Option.some (Jvm.ClassFile.FieldType.object "java/util/LinkedHashMap$Entry"))) ∈ lw_all := lw_g (lw_at lw_m9 81 rfl) rfl
theorem q2490 : (Jvm.Cond.instanceMethod ({ cls := "java/util/LinkedHashMap$LinkedHashIterator", name := "<init>", desc := "(Ljava/util/LinkedHashMap;Z)V" } : Jvm.MethodName)) ∈ lw_all := lw_g (lw_at lw_m10 168 rfl) rfl
theorem q2491 : (Jvm.Cond.code ({ cls := "java/util/LinkedHashMap$LinkedHashIterator", name := "<init>", desc := "(Ljava/util/LinkedHashMap;Z)V" } : Jvm.MethodName) prog_73_method_1_code (3 : Nat) (Option.none : Option Jvm.ClassFile.FieldType)) ∈ lw_all := lw_g (lw_at lw_m10 169 rfl) rfl
theorem q2492 : (Jvm.Cond.methodLink "java/util/LinkedHashMap$LinkedHashIterator" (7 : Nat) ({ cls := "java/lang/Object", name := "<init>", desc := "()V" } : Jvm.MethodName)) ∈ lw_all := lw_g (lw_at lw_m10 170 rfl) rfl
theorem q2493 : (Jvm.Cond.fieldLink "java/util/LinkedHashMap$LinkedHashIterator" (26 : Nat) "java/util/LinkedHashMap$LinkedHashIterator" "next" "Ljava/util/LinkedHashMap$Entry;") ∈ lw_all := lw_g (lw_at lw_m10 171 rfl) rfl
theorem q2494 : (Jvm.Cond.fieldLink "java/util/LinkedHashMap$LinkedHashIterator" (36 : Nat) "java/util/LinkedHashMap$LinkedHashIterator" "current" "Ljava/util/LinkedHashMap$Entry;") ∈ lw_all := lw_g (lw_at lw_m10 172 rfl) rfl
theorem q2495 : (Jvm.Cond.fieldLink "java/util/LinkedHashMap$LinkedHashIterator" (33 : Nat) "java/util/LinkedHashMap$LinkedHashIterator" "expectedModCount" "I") ∈ lw_all := lw_g (lw_at lw_m10 173 rfl) rfl
theorem q2496 : (Jvm.Cond.fieldLink "java/util/LinkedHashMap$LinkedHashIterator" (13 : Nat) "java/util/LinkedHashMap$LinkedHashIterator" "reversed" "Z") ∈ lw_all := lw_g (lw_at lw_m10 174 rfl) rfl
theorem q2497 : (Jvm.Cond.fieldLink "java/util/LinkedHashMap$LinkedHashIterator" (1 : Nat) "java/util/LinkedHashMap$LinkedHashIterator" "this$0" "Ljava/util/LinkedHashMap;") ∈ lw_all := lw_g (lw_at lw_m10 175 rfl) rfl
theorem q2499 : (Jvm.Cond.soleField "java/util/LinkedHashMap$LinkedHashIterator" "next") ∈ lw_all := lw_g (lw_at lw_m10 177 rfl) rfl
theorem q2501 : (Jvm.Cond.soleField "java/util/LinkedHashMap$LinkedHashIterator" "current") ∈ lw_all := lw_g (lw_at lw_m10 179 rfl) rfl
theorem q2503 : (Jvm.Cond.soleField "java/util/LinkedHashMap$LinkedHashIterator" "expectedModCount") ∈ lw_all := lw_g (lw_at lw_m10 181 rfl) rfl
theorem q2505 : (Jvm.Cond.soleField "java/util/LinkedHashMap$LinkedHashIterator" "reversed") ∈ lw_all := lw_g (lw_at lw_m10 183 rfl) rfl
theorem q2507 : (Jvm.Cond.soleField "java/util/LinkedHashMap$LinkedHashIterator" "this$0") ∈ lw_all := lw_g (lw_at lw_m10 185 rfl) rfl
theorem q2652 : (Jvm.Cond.fieldLink "java/util/LinkedHashMap$LinkedHashIterator" (45 : Nat) "java/util/LinkedHashMap$Entry" "before" "Ljava/util/LinkedHashMap$Entry;") ∈ lw_all := lw_g (lw_at lw_m11 90 rfl) rfl
theorem q2654 : (Jvm.Cond.fieldLink "java/util/LinkedHashMap$LinkedHashIterator" (50 : Nat) "java/util/LinkedHashMap$Entry" "after" "Ljava/util/LinkedHashMap$Entry;") ∈ lw_all := lw_g (lw_at lw_m11 92 rfl) rfl
theorem q220 : (Jvm.Cond.initialized "java/util/LinkedHashMap$LinkedEntryIterator") ∈ lw_all := lw_g (lw_at lw_m1 58 rfl) rfl
theorem q1006 : (Jvm.Cond.selects "java/util/LinkedHashMap$LinkedEntryIterator" ({ cls := "java/lang/Object", name := "getClass", desc := "()Ljava/lang/Class;" } : Jvm.MethodName) ({ cls := "java/lang/Object", name := "getClass", desc := "()Ljava/lang/Class;" } : Jvm.MethodName)) ∈ lw_all := lw_g (lw_at lw_m4 124 rfl) rfl
theorem q2093 : (Jvm.Cond.castable "java/util/LinkedHashMap$LinkedEntryIterator" "java/util/Iterator") ∈ lw_tbl := lw_at lw_m9 11 rfl
theorem q2094 : (Jvm.Cond.selects "java/util/LinkedHashMap$LinkedEntryIterator" ({ cls := "java/util/Iterator", name := "hasNext", desc := "()Z" } : Jvm.MethodName) ({ cls := "java/util/LinkedHashMap$LinkedHashIterator", name := "hasNext", desc := "()Z" } : Jvm.MethodName)) ∈ lw_all := lw_g (lw_at lw_m9 12 rfl) rfl
theorem q2095 : (Jvm.Cond.unhidden "java/util/LinkedHashMap$LinkedEntryIterator" "hasNext" "()Z") ∈ lw_tbl := lw_at lw_m9 13 rfl
theorem q2149 : (Jvm.Cond.selects "java/util/LinkedHashMap$LinkedEntryIterator" ({ cls := "java/util/Iterator", name := "next", desc := "()Ljava/lang/Object;" } : Jvm.MethodName) ({ cls := "java/util/LinkedHashMap$LinkedEntryIterator", name := "next", desc := "()Ljava/lang/Object;" } : Jvm.MethodName)) ∈ lw_all := lw_g (lw_at lw_m9 67 rfl) rfl
theorem q2150 : (Jvm.Cond.unhidden "java/util/LinkedHashMap$LinkedEntryIterator" "next" "()Ljava/lang/Object;") ∈ lw_tbl := lw_at lw_m9 68 rfl
theorem q2151 : (Jvm.Cond.instanceMethod ({ cls := "java/util/LinkedHashMap$LinkedEntryIterator", name := "next", desc := "()Ljava/lang/Object;" } : Jvm.MethodName)) ∈ lw_all := lw_g (lw_at lw_m9 69 rfl) rfl
theorem q2152 : (Jvm.Cond.publicMethod ({ cls := "java/util/LinkedHashMap$LinkedEntryIterator", name := "next", desc := "()Ljava/lang/Object;" } : Jvm.MethodName)) ∈ lw_tbl := lw_at lw_m9 70 rfl
theorem q2153 : (Jvm.Cond.code ({ cls := "java/util/LinkedHashMap$LinkedEntryIterator", name := "next", desc := "()Ljava/lang/Object;" } : Jvm.MethodName) prog_71_method_3_code (1 : Nat) (Option.some (Jvm.ClassFile.FieldType.object "java/lang/Object"))) ∈ lw_all := lw_g (lw_at lw_m9 71 rfl) rfl
theorem q2154 : (Jvm.Cond.methodLink "java/util/LinkedHashMap$LinkedEntryIterator" (13 : Nat) ({ cls := "java/util/LinkedHashMap$LinkedEntryIterator", name := "next", desc := "()Ljava/util/Map$Entry;" } : Jvm.MethodName)) ∈ lw_all := lw_g (lw_at lw_m9 72 rfl) rfl
theorem q2155 : (Jvm.Cond.instanceMethod ({ cls := "java/util/LinkedHashMap$LinkedEntryIterator", name := "next", desc := "()Ljava/util/Map$Entry;" } : Jvm.MethodName)) ∈ lw_all := lw_g (lw_at lw_m9 73 rfl) rfl
theorem q2156 : (Jvm.Cond.selects "java/util/LinkedHashMap$LinkedEntryIterator" ({ cls := "java/util/LinkedHashMap$LinkedEntryIterator", name := "next", desc := "()Ljava/util/Map$Entry;" } : Jvm.MethodName) ({ cls := "java/util/LinkedHashMap$LinkedEntryIterator", name := "next", desc := "()Ljava/util/Map$Entry;" } : Jvm.MethodName)) ∈ lw_all := lw_g (lw_at lw_m9 74 rfl) rfl
theorem q2157 : (Jvm.Cond.code ({ cls := "java/util/LinkedHashMap$LinkedEntryIterator", name := "next", desc := "()Ljava/util/Map$Entry;" } : Jvm.MethodName) prog_71_method_2_code (1 : Nat) (Option.some (Jvm.ClassFile.FieldType.object "java/util/Map$Entry"))) ∈ lw_all := lw_g (lw_at lw_m9 75 rfl) rfl
theorem q2158 : (Jvm.Cond.methodLink "java/util/LinkedHashMap$LinkedEntryIterator" (7 : Nat) ({ cls := "java/util/LinkedHashMap$LinkedEntryIterator", name := "nextNode", desc := "()Ljava/util/LinkedHashMap$Entry;" } : Jvm.MethodName)) ∈ lw_all := lw_g (lw_at lw_m9 76 rfl) rfl
theorem q2159 : (Jvm.Cond.sameMethod "java/util/LinkedHashMap$LinkedEntryIterator" "java/util/LinkedHashMap$LinkedHashIterator" "nextNode" "()Ljava/util/LinkedHashMap$Entry;") ∈ lw_all := lw_g (lw_at lw_m9 77 rfl) rfl
theorem q2161 : (Jvm.Cond.selects "java/util/LinkedHashMap$LinkedEntryIterator" ({ cls := "java/util/LinkedHashMap$LinkedEntryIterator", name := "nextNode", desc := "()Ljava/util/LinkedHashMap$Entry;" } : Jvm.MethodName) ({ cls := "java/util/LinkedHashMap$LinkedHashIterator", name := "nextNode", desc := "()Ljava/util/LinkedHashMap$Entry;" } : Jvm.MethodName)) ∈ lw_all := lw_g (lw_at lw_m9 79 rfl) rfl
theorem q2485 : (Jvm.Cond.instantiable "java/util/LinkedHashMap$LinkedEntryIterator" (5 : Nat)) ∈ lw_all := lw_g (lw_at lw_m10 163 rfl) rfl
theorem q2487 : (Jvm.Cond.instanceMethod ({ cls := "java/util/LinkedHashMap$LinkedEntryIterator", name := "<init>", desc := "(Ljava/util/LinkedHashMap;Z)V" } : Jvm.MethodName)) ∈ lw_all := lw_g (lw_at lw_m10 165 rfl) rfl
theorem q2488 : (Jvm.Cond.code ({ cls := "java/util/LinkedHashMap$LinkedEntryIterator", name := "<init>", desc := "(Ljava/util/LinkedHashMap;Z)V" } : Jvm.MethodName) prog_71_method_1_code (3 : Nat) (Option.none : Option Jvm.ClassFile.FieldType)) ∈ lw_all := lw_g (lw_at lw_m10 166 rfl) rfl
theorem q2489 : (Jvm.Cond.methodLink "java/util/LinkedHashMap$LinkedEntryIterator" (1 : Nat) ({ cls := "java/util/LinkedHashMap$LinkedHashIterator", name := "<init>", desc := "(Ljava/util/LinkedHashMap;Z)V" } : Jvm.MethodName)) ∈ lw_all := lw_g (lw_at lw_m10 167 rfl) rfl
theorem q2498 : (Jvm.Cond.lays "java/util/LinkedHashMap$LinkedEntryIterator" "java/util/LinkedHashMap$LinkedHashIterator" "next" "Ljava/util/LinkedHashMap$Entry;") ∈ lw_all := lw_g (lw_at lw_m10 176 rfl) rfl
theorem q2500 : (Jvm.Cond.lays "java/util/LinkedHashMap$LinkedEntryIterator" "java/util/LinkedHashMap$LinkedHashIterator" "current" "Ljava/util/LinkedHashMap$Entry;") ∈ lw_all := lw_g (lw_at lw_m10 178 rfl) rfl
theorem q2502 : (Jvm.Cond.lays "java/util/LinkedHashMap$LinkedEntryIterator" "java/util/LinkedHashMap$LinkedHashIterator" "expectedModCount" "I") ∈ lw_all := lw_g (lw_at lw_m10 180 rfl) rfl
theorem q2504 : (Jvm.Cond.lays "java/util/LinkedHashMap$LinkedEntryIterator" "java/util/LinkedHashMap$LinkedHashIterator" "reversed" "Z") ∈ lw_all := lw_g (lw_at lw_m10 182 rfl) rfl
theorem q2506 : (Jvm.Cond.laysFinal "java/util/LinkedHashMap$LinkedEntryIterator" "java/util/LinkedHashMap$LinkedHashIterator" "this$0" "Ljava/util/LinkedHashMap;") ∈ lw_all := lw_g (lw_at lw_m10 184 rfl) rfl
theorem q2508 : (Jvm.Cond.superclass "java/util/LinkedHashMap$LinkedEntryIterator" "java/util/LinkedHashMap$LinkedHashIterator") ∈ lw_all := lw_g (lw_at lw_m10 186 rfl) rfl
theorem q4645 : (Jvm.Cond.castable "java/util/LinkedHashMap$LinkedEntryIterator" "java/lang/Object") ∈ lw_tbl := lw_at lw_m19 163 rfl
theorem q221 : (Jvm.Cond.initialized "java/util/LinkedHashMap$LinkedKeyIterator") ∈ lw_all := lw_g (lw_at lw_m1 59 rfl) rfl
theorem q1008 : (Jvm.Cond.selects "java/util/LinkedHashMap$LinkedKeyIterator" ({ cls := "java/lang/Object", name := "getClass", desc := "()Ljava/lang/Class;" } : Jvm.MethodName) ({ cls := "java/lang/Object", name := "getClass", desc := "()Ljava/lang/Class;" } : Jvm.MethodName)) ∈ lw_all := lw_g (lw_at lw_m4 126 rfl) rfl
theorem q2099 : (Jvm.Cond.castable "java/util/LinkedHashMap$LinkedKeyIterator" "java/util/Iterator") ∈ lw_tbl := lw_at lw_m9 17 rfl
theorem q2100 : (Jvm.Cond.selects "java/util/LinkedHashMap$LinkedKeyIterator" ({ cls := "java/util/Iterator", name := "hasNext", desc := "()Z" } : Jvm.MethodName) ({ cls := "java/util/LinkedHashMap$LinkedHashIterator", name := "hasNext", desc := "()Z" } : Jvm.MethodName)) ∈ lw_all := lw_g (lw_at lw_m9 18 rfl) rfl
theorem q2101 : (Jvm.Cond.unhidden "java/util/LinkedHashMap$LinkedKeyIterator" "hasNext" "()Z") ∈ lw_tbl := lw_at lw_m9 19 rfl
theorem q2164 : (Jvm.Cond.selects "java/util/LinkedHashMap$LinkedKeyIterator" ({ cls := "java/util/Iterator", name := "next", desc := "()Ljava/lang/Object;" } : Jvm.MethodName) ({ cls := "java/util/LinkedHashMap$LinkedKeyIterator", name := "next", desc := "()Ljava/lang/Object;" } : Jvm.MethodName)) ∈ lw_all := lw_g (lw_at lw_m9 82 rfl) rfl
theorem q2165 : (Jvm.Cond.unhidden "java/util/LinkedHashMap$LinkedKeyIterator" "next" "()Ljava/lang/Object;") ∈ lw_tbl := lw_at lw_m9 83 rfl
theorem q2166 : (Jvm.Cond.instanceMethod ({ cls := "java/util/LinkedHashMap$LinkedKeyIterator", name := "next", desc := "()Ljava/lang/Object;" } : Jvm.MethodName)) ∈ lw_all := lw_g (lw_at lw_m9 84 rfl) rfl
theorem q2167 : (Jvm.Cond.publicMethod ({ cls := "java/util/LinkedHashMap$LinkedKeyIterator", name := "next", desc := "()Ljava/lang/Object;" } : Jvm.MethodName)) ∈ lw_tbl := lw_at lw_m9 85 rfl
theorem q2168 : (Jvm.Cond.code ({ cls := "java/util/LinkedHashMap$LinkedKeyIterator", name := "next", desc := "()Ljava/lang/Object;" } : Jvm.MethodName) prog_74_method_2_code (1 : Nat) (Option.some (Jvm.ClassFile.FieldType.object "java/lang/Object"))) ∈ lw_all := lw_g (lw_at lw_m9 86 rfl) rfl
theorem q2169 : (Jvm.Cond.methodLink "java/util/LinkedHashMap$LinkedKeyIterator" (7 : Nat) ({ cls := "java/util/LinkedHashMap$LinkedKeyIterator", name := "nextNode", desc := "()Ljava/util/LinkedHashMap$Entry;" } : Jvm.MethodName)) ∈ lw_all := lw_g (lw_at lw_m9 87 rfl) rfl
theorem q2170 : (Jvm.Cond.sameMethod "java/util/LinkedHashMap$LinkedKeyIterator" "java/util/LinkedHashMap$LinkedHashIterator" "nextNode" "()Ljava/util/LinkedHashMap$Entry;") ∈ lw_all := lw_g (lw_at lw_m9 88 rfl) rfl
theorem q2171 : (Jvm.Cond.selects "java/util/LinkedHashMap$LinkedKeyIterator" ({ cls := "java/util/LinkedHashMap$LinkedKeyIterator", name := "nextNode", desc := "()Ljava/util/LinkedHashMap$Entry;" } : Jvm.MethodName) ({ cls := "java/util/LinkedHashMap$LinkedHashIterator", name := "nextNode", desc := "()Ljava/util/LinkedHashMap$Entry;" } : Jvm.MethodName)) ∈ lw_all := lw_g (lw_at lw_m9 89 rfl) rfl
theorem q2172 : (Jvm.Cond.methodLink "java/util/LinkedHashMap$LinkedKeyIterator" (13 : Nat) ({ cls := "java/util/LinkedHashMap$Entry", name := "getKey", desc := "()Ljava/lang/Object;" } : Jvm.MethodName)) ∈ lw_all := lw_g (lw_at lw_m9 90 rfl) rfl
theorem q2516 : (Jvm.Cond.instantiable "java/util/LinkedHashMap$LinkedKeyIterator" (5 : Nat)) ∈ lw_all := lw_g (lw_at lw_m10 194 rfl) rfl
theorem q2518 : (Jvm.Cond.instanceMethod ({ cls := "java/util/LinkedHashMap$LinkedKeyIterator", name := "<init>", desc := "(Ljava/util/LinkedHashMap;Z)V" } : Jvm.MethodName)) ∈ lw_all := lw_g (lw_at lw_m10 196 rfl) rfl
theorem q2519 : (Jvm.Cond.code ({ cls := "java/util/LinkedHashMap$LinkedKeyIterator", name := "<init>", desc := "(Ljava/util/LinkedHashMap;Z)V" } : Jvm.MethodName) prog_74_method_1_code (3 : Nat) (Option.none : Option Jvm.ClassFile.FieldType)) ∈ lw_all := lw_g (lw_at lw_m10 197 rfl) rfl
theorem q2520 : (Jvm.Cond.methodLink "java/util/LinkedHashMap$LinkedKeyIterator" (1 : Nat) ({ cls := "java/util/LinkedHashMap$LinkedHashIterator", name := "<init>", desc := "(Ljava/util/LinkedHashMap;Z)V" } : Jvm.MethodName)) ∈ lw_all := lw_g (lw_at lw_m10 198 rfl) rfl
theorem q2521 : (Jvm.Cond.lays "java/util/LinkedHashMap$LinkedKeyIterator" "java/util/LinkedHashMap$LinkedHashIterator" "next" "Ljava/util/LinkedHashMap$Entry;") ∈ lw_all := lw_g (lw_at lw_m10 199 rfl) rfl
theorem q2522 : (Jvm.Cond.lays "java/util/LinkedHashMap$LinkedKeyIterator" "java/util/LinkedHashMap$LinkedHashIterator" "current" "Ljava/util/LinkedHashMap$Entry;") ∈ lw_all := lw_g (lw_at lw_m10 200 rfl) rfl
theorem q2523 : (Jvm.Cond.lays "java/util/LinkedHashMap$LinkedKeyIterator" "java/util/LinkedHashMap$LinkedHashIterator" "expectedModCount" "I") ∈ lw_all := lw_g (lw_at lw_m10 201 rfl) rfl
theorem q2524 : (Jvm.Cond.lays "java/util/LinkedHashMap$LinkedKeyIterator" "java/util/LinkedHashMap$LinkedHashIterator" "reversed" "Z") ∈ lw_all := lw_g (lw_at lw_m10 202 rfl) rfl
theorem q2525 : (Jvm.Cond.laysFinal "java/util/LinkedHashMap$LinkedKeyIterator" "java/util/LinkedHashMap$LinkedHashIterator" "this$0" "Ljava/util/LinkedHashMap;") ∈ lw_all := lw_g (lw_at lw_m10 203 rfl) rfl
theorem q2526 : (Jvm.Cond.superclass "java/util/LinkedHashMap$LinkedKeyIterator" "java/util/LinkedHashMap$LinkedHashIterator") ∈ lw_all := lw_g (lw_at lw_m10 204 rfl) rfl
theorem q4641 : (Jvm.Cond.castable "java/util/LinkedHashMap$LinkedKeyIterator" "java/lang/Object") ∈ lw_tbl := lw_at lw_m19 159 rfl
theorem q222 : (Jvm.Cond.initialized "java/util/HashMap$KeySet") ∈ lw_all := lw_g (lw_at lw_m1 60 rfl) rfl
theorem q1001 : (Jvm.Cond.selects "java/util/HashMap$KeySet" ({ cls := "java/lang/Object", name := "getClass", desc := "()Ljava/lang/Class;" } : Jvm.MethodName) ({ cls := "java/lang/Object", name := "getClass", desc := "()Ljava/lang/Class;" } : Jvm.MethodName)) ∈ lw_all := lw_g (lw_at lw_m4 119 rfl) rfl
theorem q2460 : (Jvm.Cond.castable "java/util/HashMap$KeySet" "java/util/Collection") ∈ lw_tbl := lw_at lw_m10 138 rfl
theorem q2461 : (Jvm.Cond.selects "java/util/HashMap$KeySet" ({ cls := "java/util/Collection", name := "iterator", desc := "()Ljava/util/Iterator;" } : Jvm.MethodName) ({ cls := "java/util/HashMap$KeySet", name := "iterator", desc := "()Ljava/util/Iterator;" } : Jvm.MethodName)) ∈ lw_all := lw_g (lw_at lw_m10 139 rfl) rfl
theorem q2462 : (Jvm.Cond.unhidden "java/util/HashMap$KeySet" "iterator" "()Ljava/util/Iterator;") ∈ lw_tbl := lw_at lw_m10 140 rfl
theorem q2463 : (Jvm.Cond.instanceMethod ({ cls := "java/util/HashMap$KeySet", name := "iterator", desc := "()Ljava/util/Iterator;" } : Jvm.MethodName)) ∈ lw_all := lw_g (lw_at lw_m10 141 rfl) rfl
theorem q2464 : (Jvm.Cond.publicMethod ({ cls := "java/util/HashMap$KeySet", name := "iterator", desc := "()Ljava/util/Iterator;" } : Jvm.MethodName)) ∈ lw_tbl := lw_at lw_m10 142 rfl
theorem q2465 : (Jvm.Cond.code ({ cls := "java/util/HashMap$KeySet", name := "iterator", desc := "()Ljava/util/Iterator;" } : Jvm.MethodName) prog_64_method_4_code (1 : Nat) (Option.some (Jvm.ClassFile.FieldType.object "java/util/Iterator"))) ∈ lw_all := lw_g (lw_at lw_m10 143 rfl) rfl
theorem q2466 : (Jvm.Cond.classLink "java/util/HashMap$KeySet" (22 : Nat) "java/util/HashMap$KeyIterator") ∈ lw_all := lw_g (lw_at lw_m10 144 rfl) rfl
theorem q2468 : (Jvm.Cond.methodLink "java/util/HashMap$KeySet" (24 : Nat) ({ cls := "java/util/HashMap$KeyIterator", name := "<init>", desc := "(Ljava/util/HashMap;)V" } : Jvm.MethodName)) ∈ lw_all := lw_g (lw_at lw_m10 146 rfl) rfl
theorem q2560 : (Jvm.Cond.instantiable "java/util/HashMap$KeySet" (1 : Nat)) ∈ lw_all := lw_g (lw_at lw_m10 238 rfl) rfl
theorem q2562 : (Jvm.Cond.instanceMethod ({ cls := "java/util/HashMap$KeySet", name := "<init>", desc := "(Ljava/util/HashMap;)V" } : Jvm.MethodName)) ∈ lw_all := lw_g (lw_at lw_m11 0 rfl) rfl
theorem q2563 : (Jvm.Cond.code ({ cls := "java/util/HashMap$KeySet", name := "<init>", desc := "(Ljava/util/HashMap;)V" } : Jvm.MethodName) prog_64_method_1_code (2 : Nat) (Option.none : Option Jvm.ClassFile.FieldType)) ∈ lw_all := lw_g (lw_at lw_m11 1 rfl) rfl
theorem q2564 : (Jvm.Cond.methodLink "java/util/HashMap$KeySet" (7 : Nat) ({ cls := "java/util/AbstractSet", name := "<init>", desc := "()V" } : Jvm.MethodName)) ∈ lw_all := lw_g (lw_at lw_m11 2 rfl) rfl
theorem q2565 : (Jvm.Cond.fieldLink "java/util/HashMap$KeySet" (1 : Nat) "java/util/HashMap$KeySet" "this$0" "Ljava/util/HashMap;") ∈ lw_all := lw_g (lw_at lw_m11 3 rfl) rfl
theorem q2566 : (Jvm.Cond.laysFinal "java/util/HashMap$KeySet" "java/util/HashMap$KeySet" "this$0" "Ljava/util/HashMap;") ∈ lw_all := lw_g (lw_at lw_m11 4 rfl) rfl
theorem q2567 : (Jvm.Cond.soleField "java/util/HashMap$KeySet" "this$0") ∈ lw_all := lw_g (lw_at lw_m11 5 rfl) rfl
theorem q2568 : (Jvm.Cond.superclass "java/util/HashMap$KeySet" "java/util/AbstractSet") ∈ lw_all := lw_g (lw_at lw_m11 6 rfl) rfl
theorem q2575 : (Jvm.Cond.castable "java/util/HashMap$KeySet" "java/util/Set") ∈ lw_tbl := lw_at lw_m11 13 rfl
theorem q2576 : (Jvm.Cond.selects "java/util/HashMap$KeySet" ({ cls := "java/util/Set", name := "iterator", desc := "()Ljava/util/Iterator;" } : Jvm.MethodName) ({ cls := "java/util/HashMap$KeySet", name := "iterator", desc := "()Ljava/util/Iterator;" } : Jvm.MethodName)) ∈ lw_all := lw_g (lw_at lw_m11 14 rfl) rfl
theorem q2596 : (Jvm.Cond.selects "java/util/HashMap$KeySet" ({ cls := "java/util/AbstractCollection", name := "add", desc := "(Ljava/lang/Object;)Z" } : Jvm.MethodName) ({ cls := "java/util/AbstractCollection", name := "add", desc := "(Ljava/lang/Object;)Z" } : Jvm.MethodName)) ∈ lw_all := lw_g (lw_at lw_m11 34 rfl) rfl
theorem q4638 : (Jvm.Cond.castable "java/util/HashMap$KeySet" "java/lang/Object") ∈ lw_tbl := lw_at lw_m19 156 rfl
theorem q223 : (Jvm.Cond.initialized "java/util/LinkedHashMap$LinkedKeySet") ∈ lw_all := lw_g (lw_at lw_m1 61 rfl) rfl
theorem q1009 : (Jvm.Cond.selects "java/util/LinkedHashMap$LinkedKeySet" ({ cls := "java/lang/Object", name := "getClass", desc := "()Ljava/lang/Class;" } : Jvm.MethodName) ({ cls := "java/lang/Object", name := "getClass", desc := "()Ljava/lang/Class;" } : Jvm.MethodName)) ∈ lw_all := lw_g (lw_at lw_m4 127 rfl) rfl
theorem q2509 : (Jvm.Cond.castable "java/util/LinkedHashMap$LinkedKeySet" "java/util/Collection") ∈ lw_tbl := lw_at lw_m10 187 rfl
theorem q2510 : (Jvm.Cond.selects "java/util/LinkedHashMap$LinkedKeySet" ({ cls := "java/util/Collection", name := "iterator", desc := "()Ljava/util/Iterator;" } : Jvm.MethodName) ({ cls := "java/util/LinkedHashMap$LinkedKeySet", name := "iterator", desc := "()Ljava/util/Iterator;" } : Jvm.MethodName)) ∈ lw_all := lw_g (lw_at lw_m10 188 rfl) rfl
theorem q2511 : (Jvm.Cond.unhidden "java/util/LinkedHashMap$LinkedKeySet" "iterator" "()Ljava/util/Iterator;") ∈ lw_tbl := lw_at lw_m10 189 rfl
theorem q2512 : (Jvm.Cond.instanceMethod ({ cls := "java/util/LinkedHashMap$LinkedKeySet", name := "iterator", desc := "()Ljava/util/Iterator;" } : Jvm.MethodName)) ∈ lw_all := lw_g (lw_at lw_m10 190 rfl) rfl
theorem q2513 : (Jvm.Cond.publicMethod ({ cls := "java/util/LinkedHashMap$LinkedKeySet", name := "iterator", desc := "()Ljava/util/Iterator;" } : Jvm.MethodName)) ∈ lw_tbl := lw_at lw_m10 191 rfl
theorem q2514 : (Jvm.Cond.code ({ cls := "java/util/LinkedHashMap$LinkedKeySet", name := "iterator", desc := "()Ljava/util/Iterator;" } : Jvm.MethodName) prog_75_method_4_code (1 : Nat) (Option.some (Jvm.ClassFile.FieldType.object "java/util/Iterator"))) ∈ lw_all := lw_g (lw_at lw_m10 192 rfl) rfl
theorem q2515 : (Jvm.Cond.classLink "java/util/LinkedHashMap$LinkedKeySet" (26 : Nat) "java/util/LinkedHashMap$LinkedKeyIterator") ∈ lw_all := lw_g (lw_at lw_m10 193 rfl) rfl
theorem q2517 : (Jvm.Cond.methodLink "java/util/LinkedHashMap$LinkedKeySet" (28 : Nat) ({ cls := "java/util/LinkedHashMap$LinkedKeyIterator", name := "<init>", desc := "(Ljava/util/LinkedHashMap;Z)V" } : Jvm.MethodName)) ∈ lw_all := lw_g (lw_at lw_m10 195 rfl) rfl
theorem q2545 : (Jvm.Cond.instantiable "java/util/LinkedHashMap$LinkedKeySet" (2 : Nat)) ∈ lw_all := lw_g (lw_at lw_m10 223 rfl) rfl
theorem q2547 : (Jvm.Cond.instanceMethod ({ cls := "java/util/LinkedHashMap$LinkedKeySet", name := "<init>", desc := "(Ljava/util/LinkedHashMap;Z)V" } : Jvm.MethodName)) ∈ lw_all := lw_g (lw_at lw_m10 225 rfl) rfl
theorem q2548 : (Jvm.Cond.code ({ cls := "java/util/LinkedHashMap$LinkedKeySet", name := "<init>", desc := "(Ljava/util/LinkedHashMap;Z)V" } : Jvm.MethodName) prog_75_method_1_code (3 : Nat) (Option.none : Option Jvm.ClassFile.FieldType)) ∈ lw_all := lw_g (lw_at lw_m10 226 rfl) rfl
theorem q2549 : (Jvm.Cond.methodLink "java/util/LinkedHashMap$LinkedKeySet" (7 : Nat) ({ cls := "java/util/AbstractSet", name := "<init>", desc := "()V" } : Jvm.MethodName)) ∈ lw_all := lw_g (lw_at lw_m10 227 rfl) rfl
theorem q2550 : (Jvm.Cond.fieldLink "java/util/LinkedHashMap$LinkedKeySet" (13 : Nat) "java/util/LinkedHashMap$LinkedKeySet" "reversed" "Z") ∈ lw_all := lw_g (lw_at lw_m10 228 rfl) rfl
theorem q2551 : (Jvm.Cond.fieldLink "java/util/LinkedHashMap$LinkedKeySet" (1 : Nat) "java/util/LinkedHashMap$LinkedKeySet" "this$0" "Ljava/util/LinkedHashMap;") ∈ lw_all := lw_g (lw_at lw_m10 229 rfl) rfl
theorem q2552 : (Jvm.Cond.laysFinal "java/util/LinkedHashMap$LinkedKeySet" "java/util/LinkedHashMap$LinkedKeySet" "reversed" "Z") ∈ lw_all := lw_g (lw_at lw_m10 230 rfl) rfl
theorem q2553 : (Jvm.Cond.soleField "java/util/LinkedHashMap$LinkedKeySet" "reversed") ∈ lw_all := lw_g (lw_at lw_m10 231 rfl) rfl
theorem q2554 : (Jvm.Cond.laysFinal "java/util/LinkedHashMap$LinkedKeySet" "java/util/LinkedHashMap$LinkedKeySet" "this$0" "Ljava/util/LinkedHashMap;") ∈ lw_all := lw_g (lw_at lw_m10 232 rfl) rfl
theorem q2555 : (Jvm.Cond.soleField "java/util/LinkedHashMap$LinkedKeySet" "this$0") ∈ lw_all := lw_g (lw_at lw_m10 233 rfl) rfl
theorem q2556 : (Jvm.Cond.superclass "java/util/LinkedHashMap$LinkedKeySet" "java/util/AbstractSet") ∈ lw_all := lw_g (lw_at lw_m10 234 rfl) rfl
theorem q2579 : (Jvm.Cond.castable "java/util/LinkedHashMap$LinkedKeySet" "java/util/Set") ∈ lw_tbl := lw_at lw_m11 17 rfl
theorem q2580 : (Jvm.Cond.selects "java/util/LinkedHashMap$LinkedKeySet" ({ cls := "java/util/Set", name := "iterator", desc := "()Ljava/util/Iterator;" } : Jvm.MethodName) ({ cls := "java/util/LinkedHashMap$LinkedKeySet", name := "iterator", desc := "()Ljava/util/Iterator;" } : Jvm.MethodName)) ∈ lw_all := lw_g (lw_at lw_m11 18 rfl) rfl
theorem q2598 : (Jvm.Cond.selects "java/util/LinkedHashMap$LinkedKeySet" ({ cls := "java/util/AbstractCollection", name := "add", desc := "(Ljava/lang/Object;)Z" } : Jvm.MethodName) ({ cls := "java/util/AbstractCollection", name := "add", desc := "(Ljava/lang/Object;)Z" } : Jvm.MethodName)) ∈ lw_all := lw_g (lw_at lw_m11 36 rfl) rfl
theorem q4597 : (Jvm.Cond.castable "java/util/LinkedHashMap$LinkedKeySet" "java/util/SequencedSet") ∈ lw_tbl := lw_at lw_m19 115 rfl
theorem q4639 : (Jvm.Cond.castable "java/util/LinkedHashMap$LinkedKeySet" "java/lang/Object") ∈ lw_tbl := lw_at lw_m19 157 rfl
theorem q224 : (Jvm.Cond.initialized "java/lang/StrictMath") ∈ lw_all := lw_g (lw_at lw_m1 62 rfl) rfl
theorem q2842 : (Jvm.Cond.static ({ cls := "java/lang/StrictMath", name := "ceil", desc := "(D)D" } : Jvm.MethodName)) ∈ lw_all := lw_g (lw_at lw_m12 40 rfl) rfl
theorem q2843 : (Jvm.Cond.code ({ cls := "java/lang/StrictMath", name := "ceil", desc := "(D)D" } : Jvm.MethodName) prog_36_method_16_code (2 : Nat) (Option.some Jvm.ClassFile.FieldType.double)) ∈ lw_all := lw_g (lw_at lw_m12 41 rfl) rfl
theorem q2844 : (Jvm.Cond.constantDouble "java/lang/StrictMath" (58 : Nat) (9223372036854775808 : UInt64)) ∈ lw_all := lw_g (lw_at lw_m12 42 rfl) rfl
theorem q2845 : (Jvm.Cond.methodLink "java/lang/StrictMath" (60 : Nat) ({ cls := "java/lang/StrictMath", name := "floorOrCeil", desc := "(DDDD)D" } : Jvm.MethodName)) ∈ lw_all := lw_g (lw_at lw_m12 43 rfl) rfl
theorem q2846 : (Jvm.Cond.static ({ cls := "java/lang/StrictMath", name := "floorOrCeil", desc := "(DDDD)D" } : Jvm.MethodName)) ∈ lw_all := lw_g (lw_at lw_m12 44 rfl) rfl
theorem q2847 : (Jvm.Cond.code ({ cls := "java/lang/StrictMath", name := "floorOrCeil", desc := "(DDDD)D" } : Jvm.MethodName) prog_36_method_18_code (15 : Nat) (Option.some Jvm.ClassFile.FieldType.double)) ∈ lw_all := lw_g (lw_at lw_m12 45 rfl) rfl
theorem q2848 : (Jvm.Cond.methodLink "java/lang/StrictMath" (66 : Nat) ({ cls := "java/lang/Math", name := "getExponent", desc := "(D)I" } : Jvm.MethodName)) ∈ lw_all := lw_g (lw_at lw_m12 46 rfl) rfl
theorem q2856 : (Jvm.Cond.fieldLink "java/lang/StrictMath" (70 : Nat) "java/lang/StrictMath" "$assertionsDisabled" "Z") ∈ lw_all := lw_g (lw_at lw_m12 54 rfl) rfl
theorem q2857 : (Jvm.Cond.laysStatic "java/lang/StrictMath" "$assertionsDisabled" "Z") ∈ lw_tbl := lw_at lw_m12 55 rfl
theorem q2858 : (Jvm.Cond.methodLink "java/lang/StrictMath" (77 : Nat) ({ cls := "java/lang/Double", name := "doubleToRawLongBits", desc := "(D)J" } : Jvm.MethodName)) ∈ lw_all := lw_g (lw_at lw_m12 56 rfl) rfl
theorem q2859 : (Jvm.Cond.constantLong "java/lang/StrictMath" (85 : Nat) (4503599627370495 : Int64)) ∈ lw_all := lw_g (lw_at lw_m12 57 rfl) rfl
theorem q2860 : (Jvm.Cond.constantLong "java/lang/StrictMath" (87 : Nat) (-1 : Int64)) ∈ lw_all := lw_g (lw_at lw_m12 58 rfl) rfl
theorem q2861 : (Jvm.Cond.methodLink "java/lang/StrictMath" (89 : Nat) ({ cls := "java/lang/Double", name := "longBitsToDouble", desc := "(J)D" } : Jvm.MethodName)) ∈ lw_all := lw_g (lw_at lw_m12 59 rfl) rfl
theorem q226 : (Jvm.Cond.initialized "java/util/HashMap$EntrySet") ∈ lw_all := lw_g (lw_at lw_m1 64 rfl) rfl
theorem q999 : (Jvm.Cond.selects "java/util/HashMap$EntrySet" ({ cls := "java/lang/Object", name := "getClass", desc := "()Ljava/lang/Class;" } : Jvm.MethodName) ({ cls := "java/lang/Object", name := "getClass", desc := "()Ljava/lang/Class;" } : Jvm.MethodName)) ∈ lw_all := lw_g (lw_at lw_m4 117 rfl) rfl
theorem q2429 : (Jvm.Cond.castable "java/util/HashMap$EntrySet" "java/util/Collection") ∈ lw_tbl := lw_at lw_m10 107 rfl
theorem q2430 : (Jvm.Cond.selects "java/util/HashMap$EntrySet" ({ cls := "java/util/Collection", name := "iterator", desc := "()Ljava/util/Iterator;" } : Jvm.MethodName) ({ cls := "java/util/HashMap$EntrySet", name := "iterator", desc := "()Ljava/util/Iterator;" } : Jvm.MethodName)) ∈ lw_all := lw_g (lw_at lw_m10 108 rfl) rfl
theorem q2431 : (Jvm.Cond.unhidden "java/util/HashMap$EntrySet" "iterator" "()Ljava/util/Iterator;") ∈ lw_tbl := lw_at lw_m10 109 rfl
theorem q2432 : (Jvm.Cond.instanceMethod ({ cls := "java/util/HashMap$EntrySet", name := "iterator", desc := "()Ljava/util/Iterator;" } : Jvm.MethodName)) ∈ lw_all := lw_g (lw_at lw_m10 110 rfl) rfl
theorem q2433 : (Jvm.Cond.publicMethod ({ cls := "java/util/HashMap$EntrySet", name := "iterator", desc := "()Ljava/util/Iterator;" } : Jvm.MethodName)) ∈ lw_tbl := lw_at lw_m10 111 rfl
theorem q2434 : (Jvm.Cond.code ({ cls := "java/util/HashMap$EntrySet", name := "iterator", desc := "()Ljava/util/Iterator;" } : Jvm.MethodName) prog_61_method_4_code (1 : Nat) (Option.some (Jvm.ClassFile.FieldType.object "java/util/Iterator"))) ∈ lw_all := lw_g (lw_at lw_m10 112 rfl) rfl
theorem q2435 : (Jvm.Cond.classLink "java/util/HashMap$EntrySet" (22 : Nat) "java/util/HashMap$EntryIterator") ∈ lw_all := lw_g (lw_at lw_m10 113 rfl) rfl
theorem q2437 : (Jvm.Cond.methodLink "java/util/HashMap$EntrySet" (24 : Nat) ({ cls := "java/util/HashMap$EntryIterator", name := "<init>", desc := "(Ljava/util/HashMap;)V" } : Jvm.MethodName)) ∈ lw_all := lw_g (lw_at lw_m10 115 rfl) rfl
theorem q2573 : (Jvm.Cond.castable "java/util/HashMap$EntrySet" "java/util/Set") ∈ lw_tbl := lw_at lw_m11 11 rfl
theorem q2574 : (Jvm.Cond.selects "java/util/HashMap$EntrySet" ({ cls := "java/util/Set", name := "iterator", desc := "()Ljava/util/Iterator;" } : Jvm.MethodName) ({ cls := "java/util/HashMap$EntrySet", name := "iterator", desc := "()Ljava/util/Iterator;" } : Jvm.MethodName)) ∈ lw_all := lw_g (lw_at lw_m11 12 rfl) rfl
theorem q2595 : (Jvm.Cond.selects "java/util/HashMap$EntrySet" ({ cls := "java/util/AbstractCollection", name := "add", desc := "(Ljava/lang/Object;)Z" } : Jvm.MethodName) ({ cls := "java/util/AbstractCollection", name := "add", desc := "(Ljava/lang/Object;)Z" } : Jvm.MethodName)) ∈ lw_all := lw_g (lw_at lw_m11 33 rfl) rfl
theorem q2875 : (Jvm.Cond.instantiable "java/util/HashMap$EntrySet" (1 : Nat)) ∈ lw_all := lw_g (lw_at lw_m12 73 rfl) rfl
theorem q2877 : (Jvm.Cond.instanceMethod ({ cls := "java/util/HashMap$EntrySet", name := "<init>", desc := "(Ljava/util/HashMap;)V" } : Jvm.MethodName)) ∈ lw_all := lw_g (lw_at lw_m12 75 rfl) rfl
theorem q2878 : (Jvm.Cond.code ({ cls := "java/util/HashMap$EntrySet", name := "<init>", desc := "(Ljava/util/HashMap;)V" } : Jvm.MethodName) prog_61_method_1_code (2 : Nat) (Option.none : Option Jvm.ClassFile.FieldType)) ∈ lw_all := lw_g (lw_at lw_m12 76 rfl) rfl
theorem q2879 : (Jvm.Cond.methodLink "java/util/HashMap$EntrySet" (7 : Nat) ({ cls := "java/util/AbstractSet", name := "<init>", desc := "()V" } : Jvm.MethodName)) ∈ lw_all := lw_g (lw_at lw_m12 77 rfl) rfl
theorem q2880 : (Jvm.Cond.fieldLink "java/util/HashMap$EntrySet" (1 : Nat) "java/util/HashMap$EntrySet" "this$0" "Ljava/util/HashMap;") ∈ lw_all := lw_g (lw_at lw_m12 78 rfl) rfl
theorem q2881 : (Jvm.Cond.laysFinal "java/util/HashMap$EntrySet" "java/util/HashMap$EntrySet" "this$0" "Ljava/util/HashMap;") ∈ lw_all := lw_g (lw_at lw_m12 79 rfl) rfl
theorem q2882 : (Jvm.Cond.soleField "java/util/HashMap$EntrySet" "this$0") ∈ lw_all := lw_g (lw_at lw_m12 80 rfl) rfl
theorem q2883 : (Jvm.Cond.superclass "java/util/HashMap$EntrySet" "java/util/AbstractSet") ∈ lw_all := lw_g (lw_at lw_m12 81 rfl) rfl
theorem q4642 : (Jvm.Cond.castable "java/util/HashMap$EntrySet" "java/lang/Object") ∈ lw_tbl := lw_at lw_m19 160 rfl
theorem q170 : (Jvm.Cond.initialized "java/lang/RuntimeException") ∈ lw_all := lw_g (lw_at lw_m1 8 rfl) rfl
theorem q267 : (Jvm.Cond.declares ({ cls := "java/lang/RuntimeException", name := "<init>", desc := "()V" } : Jvm.MethodName)) ∈ lw_tbl := lw_at lw_m1 105 rfl
theorem q268 : (Jvm.Cond.declares ({ cls := "java/lang/RuntimeException", name := "<init>", desc := "(Ljava/lang/String;)V" } : Jvm.MethodName)) ∈ lw_tbl := lw_at lw_m1 106 rfl
theorem q536 : (Jvm.Cond.instanceMethod ({ cls := "java/lang/RuntimeException", name := "<init>", desc := "(Ljava/lang/String;)V" } : Jvm.MethodName)) ∈ lw_all := lw_g (lw_at lw_m2 134 rfl) rfl
theorem q537 : (Jvm.Cond.code ({ cls := "java/lang/RuntimeException", name := "<init>", desc := "(Ljava/lang/String;)V" } : Jvm.MethodName) prog_35_method_2_code (2 : Nat) (Option.none : Option Jvm.ClassFile.FieldType)) ∈ lw_all := lw_g (lw_at lw_m2 135 rfl) rfl
theorem q538 : (Jvm.Cond.methodLink "java/lang/RuntimeException" (7 : Nat) ({ cls := "java/lang/Exception", name := "<init>", desc := "(Ljava/lang/String;)V" } : Jvm.MethodName)) ∈ lw_all := lw_g (lw_at lw_m2 136 rfl) rfl
theorem q1111 : (Jvm.Cond.instanceMethod ({ cls := "java/lang/RuntimeException", name := "<init>", desc := "(Ljava/lang/String;Ljava/lang/Throwable;)V" } : Jvm.MethodName)) ∈ lw_all := lw_g (lw_at lw_m4 229 rfl) rfl
theorem q1112 : (Jvm.Cond.code ({ cls := "java/lang/RuntimeException", name := "<init>", desc := "(Ljava/lang/String;Ljava/lang/Throwable;)V" } : Jvm.MethodName) prog_35_method_3_code (3 : Nat) (Option.none : Option Jvm.ClassFile.FieldType)) ∈ lw_all := lw_g (lw_at lw_m4 230 rfl) rfl
theorem q1113 : (Jvm.Cond.methodLink "java/lang/RuntimeException" (10 : Nat) ({ cls := "java/lang/Exception", name := "<init>", desc := "(Ljava/lang/String;Ljava/lang/Throwable;)V" } : Jvm.MethodName)) ∈ lw_all := lw_g (lw_at lw_m4 231 rfl) rfl
theorem q3050 : (Jvm.Cond.instanceMethod ({ cls := "java/lang/RuntimeException", name := "<init>", desc := "()V" } : Jvm.MethodName)) ∈ lw_all := lw_g (lw_at lw_m13 8 rfl) rfl
theorem q3051 : (Jvm.Cond.code ({ cls := "java/lang/RuntimeException", name := "<init>", desc := "()V" } : Jvm.MethodName) prog_35_method_1_code (1 : Nat) (Option.none : Option Jvm.ClassFile.FieldType)) ∈ lw_all := lw_g (lw_at lw_m13 9 rfl) rfl
theorem q3052 : (Jvm.Cond.methodLink "java/lang/RuntimeException" (1 : Nat) ({ cls := "java/lang/Exception", name := "<init>", desc := "()V" } : Jvm.MethodName)) ∈ lw_all := lw_g (lw_at lw_m13 10 rfl) rfl
theorem q227 : (Jvm.Cond.initialized "java/util/LinkedHashMap$LinkedEntrySet") ∈ lw_all := lw_g (lw_at lw_m1 65 rfl) rfl
theorem q1007 : (Jvm.Cond.selects "java/util/LinkedHashMap$LinkedEntrySet" ({ cls := "java/lang/Object", name := "getClass", desc := "()Ljava/lang/Class;" } : Jvm.MethodName) ({ cls := "java/lang/Object", name := "getClass", desc := "()Ljava/lang/Class;" } : Jvm.MethodName)) ∈ lw_all := lw_g (lw_at lw_m4 125 rfl) rfl
theorem q2478 : (Jvm.Cond.castable "java/util/LinkedHashMap$LinkedEntrySet" "java/util/Collection") ∈ lw_tbl := lw_at lw_m10 156 rfl
theorem q2479 : (Jvm.Cond.selects "java/util/LinkedHashMap$LinkedEntrySet" ({ cls := "java/util/Collection", name := "iterator", desc := "()Ljava/util/Iterator;" } : Jvm.MethodName) ({ cls := "java/util/LinkedHashMap$LinkedEntrySet", name := "iterator", desc := "()Ljava/util/Iterator;" } : Jvm.MethodName)) ∈ lw_all := lw_g (lw_at lw_m10 157 rfl) rfl
theorem q2480 : (Jvm.Cond.unhidden "java/util/LinkedHashMap$LinkedEntrySet" "iterator" "()Ljava/util/Iterator;") ∈ lw_tbl := lw_at lw_m10 158 rfl
theorem q2481 : (Jvm.Cond.instanceMethod ({ cls := "java/util/LinkedHashMap$LinkedEntrySet", name := "iterator", desc := "()Ljava/util/Iterator;" } : Jvm.MethodName)) ∈ lw_all := lw_g (lw_at lw_m10 159 rfl) rfl
theorem q2482 : (Jvm.Cond.publicMethod ({ cls := "java/util/LinkedHashMap$LinkedEntrySet", name := "iterator", desc := "()Ljava/util/Iterator;" } : Jvm.MethodName)) ∈ lw_tbl := lw_at lw_m10 160 rfl
theorem q2483 : (Jvm.Cond.code ({ cls := "java/util/LinkedHashMap$LinkedEntrySet", name := "iterator", desc := "()Ljava/util/Iterator;" } : Jvm.MethodName) prog_72_method_4_code (1 : Nat) (Option.some (Jvm.ClassFile.FieldType.object "java/util/Iterator"))) ∈ lw_all := lw_g (lw_at lw_m10 161 rfl) rfl
theorem q2484 : (Jvm.Cond.classLink "java/util/LinkedHashMap$LinkedEntrySet" (26 : Nat) "java/util/LinkedHashMap$LinkedEntryIterator") ∈ lw_all := lw_g (lw_at lw_m10 162 rfl) rfl
theorem q2486 : (Jvm.Cond.methodLink "java/util/LinkedHashMap$LinkedEntrySet" (28 : Nat) ({ cls := "java/util/LinkedHashMap$LinkedEntryIterator", name := "<init>", desc := "(Ljava/util/LinkedHashMap;Z)V" } : Jvm.MethodName)) ∈ lw_all := lw_g (lw_at lw_m10 164 rfl) rfl
theorem q2577 : (Jvm.Cond.castable "java/util/LinkedHashMap$LinkedEntrySet" "java/util/Set") ∈ lw_tbl := lw_at lw_m11 15 rfl
theorem q2578 : (Jvm.Cond.selects "java/util/LinkedHashMap$LinkedEntrySet" ({ cls := "java/util/Set", name := "iterator", desc := "()Ljava/util/Iterator;" } : Jvm.MethodName) ({ cls := "java/util/LinkedHashMap$LinkedEntrySet", name := "iterator", desc := "()Ljava/util/Iterator;" } : Jvm.MethodName)) ∈ lw_all := lw_g (lw_at lw_m11 16 rfl) rfl
theorem q2597 : (Jvm.Cond.selects "java/util/LinkedHashMap$LinkedEntrySet" ({ cls := "java/util/AbstractCollection", name := "add", desc := "(Ljava/lang/Object;)Z" } : Jvm.MethodName) ({ cls := "java/util/AbstractCollection", name := "add", desc := "(Ljava/lang/Object;)Z" } : Jvm.MethodName)) ∈ lw_all := lw_g (lw_at lw_m11 35 rfl) rfl
theorem q2894 : (Jvm.Cond.instantiable "java/util/LinkedHashMap$LinkedEntrySet" (2 : Nat)) ∈ lw_all := lw_g (lw_at lw_m12 92 rfl) rfl
theorem q2896 : (Jvm.Cond.instanceMethod ({ cls := "java/util/LinkedHashMap$LinkedEntrySet", name := "<init>", desc := "(Ljava/util/LinkedHashMap;Z)V" } : Jvm.MethodName)) ∈ lw_all := lw_g (lw_at lw_m12 94 rfl) rfl
theorem q2897 : (Jvm.Cond.code ({ cls := "java/util/LinkedHashMap$LinkedEntrySet", name := "<init>", desc := "(Ljava/util/LinkedHashMap;Z)V" } : Jvm.MethodName) prog_72_method_1_code (3 : Nat) (Option.none : Option Jvm.ClassFile.FieldType)) ∈ lw_all := lw_g (lw_at lw_m12 95 rfl) rfl
theorem q2898 : (Jvm.Cond.methodLink "java/util/LinkedHashMap$LinkedEntrySet" (7 : Nat) ({ cls := "java/util/AbstractSet", name := "<init>", desc := "()V" } : Jvm.MethodName)) ∈ lw_all := lw_g (lw_at lw_m12 96 rfl) rfl
theorem q2899 : (Jvm.Cond.fieldLink "java/util/LinkedHashMap$LinkedEntrySet" (13 : Nat) "java/util/LinkedHashMap$LinkedEntrySet" "reversed" "Z") ∈ lw_all := lw_g (lw_at lw_m12 97 rfl) rfl
theorem q2900 : (Jvm.Cond.fieldLink "java/util/LinkedHashMap$LinkedEntrySet" (1 : Nat) "java/util/LinkedHashMap$LinkedEntrySet" "this$0" "Ljava/util/LinkedHashMap;") ∈ lw_all := lw_g (lw_at lw_m12 98 rfl) rfl
theorem q2901 : (Jvm.Cond.laysFinal "java/util/LinkedHashMap$LinkedEntrySet" "java/util/LinkedHashMap$LinkedEntrySet" "reversed" "Z") ∈ lw_all := lw_g (lw_at lw_m12 99 rfl) rfl
theorem q2902 : (Jvm.Cond.soleField "java/util/LinkedHashMap$LinkedEntrySet" "reversed") ∈ lw_all := lw_g (lw_at lw_m12 100 rfl) rfl
theorem q2903 : (Jvm.Cond.laysFinal "java/util/LinkedHashMap$LinkedEntrySet" "java/util/LinkedHashMap$LinkedEntrySet" "this$0" "Ljava/util/LinkedHashMap;") ∈ lw_all := lw_g (lw_at lw_m12 101 rfl) rfl
theorem q2904 : (Jvm.Cond.soleField "java/util/LinkedHashMap$LinkedEntrySet" "this$0") ∈ lw_all := lw_g (lw_at lw_m12 102 rfl) rfl
theorem q2905 : (Jvm.Cond.superclass "java/util/LinkedHashMap$LinkedEntrySet" "java/util/AbstractSet") ∈ lw_all := lw_g (lw_at lw_m12 103 rfl) rfl
theorem q4596 : (Jvm.Cond.castable "java/util/LinkedHashMap$LinkedEntrySet" "java/util/SequencedSet") ∈ lw_tbl := lw_at lw_m19 114 rfl
theorem q4643 : (Jvm.Cond.castable "java/util/LinkedHashMap$LinkedEntrySet" "java/lang/Object") ∈ lw_tbl := lw_at lw_m19 161 rfl
theorem q228 : (Jvm.Cond.initialized "java/lang/IndexOutOfBoundsException") ∈ lw_all := lw_g (lw_at lw_m1 66 rfl) rfl
theorem q301 : (Jvm.Cond.selects "java/lang/IndexOutOfBoundsException" ({ cls := "java/lang/Throwable", name := "fillInStackTrace", desc := "()Ljava/lang/Throwable;" } : Jvm.MethodName) ({ cls := "java/lang/Throwable", name := "fillInStackTrace", desc := "()Ljava/lang/Throwable;" } : Jvm.MethodName)) ∈ lw_all := lw_g (lw_at lw_m1 139 rfl) rfl
theorem q987 : (Jvm.Cond.selects "java/lang/IndexOutOfBoundsException" ({ cls := "java/lang/Object", name := "getClass", desc := "()Ljava/lang/Class;" } : Jvm.MethodName) ({ cls := "java/lang/Object", name := "getClass", desc := "()Ljava/lang/Class;" } : Jvm.MethodName)) ∈ lw_all := lw_g (lw_at lw_m4 105 rfl) rfl
theorem q1022 : (Jvm.Cond.selects "java/lang/IndexOutOfBoundsException" ({ cls := "java/lang/Throwable", name := "getLocalizedMessage", desc := "()Ljava/lang/String;" } : Jvm.MethodName) ({ cls := "java/lang/Throwable", name := "getLocalizedMessage", desc := "()Ljava/lang/String;" } : Jvm.MethodName)) ∈ lw_all := lw_g (lw_at lw_m4 140 rfl) rfl
theorem q1033 : (Jvm.Cond.selects "java/lang/IndexOutOfBoundsException" ({ cls := "java/lang/Throwable", name := "getMessage", desc := "()Ljava/lang/String;" } : Jvm.MethodName) ({ cls := "java/lang/Throwable", name := "getMessage", desc := "()Ljava/lang/String;" } : Jvm.MethodName)) ∈ lw_all := lw_g (lw_at lw_m4 151 rfl) rfl
theorem q1052 : (Jvm.Cond.selects "java/lang/IndexOutOfBoundsException" ({ cls := "java/lang/Object", name := "toString", desc := "()Ljava/lang/String;" } : Jvm.MethodName) ({ cls := "java/lang/Throwable", name := "toString", desc := "()Ljava/lang/String;" } : Jvm.MethodName)) ∈ lw_all := lw_g (lw_at lw_m4 170 rfl) rfl
theorem q1663 : (Jvm.Cond.selects "java/lang/IndexOutOfBoundsException" ({ cls := "java/lang/Object", name := "hashCode", desc := "()I" } : Jvm.MethodName) ({ cls := "java/lang/Object", name := "hashCode", desc := "()I" } : Jvm.MethodName)) ∈ lw_all := lw_g (lw_at lw_m7 61 rfl) rfl
theorem q1755 : (Jvm.Cond.selects "java/lang/IndexOutOfBoundsException" ({ cls := "java/lang/Object", name := "equals", desc := "(Ljava/lang/Object;)Z" } : Jvm.MethodName) ({ cls := "java/lang/Object", name := "equals", desc := "(Ljava/lang/Object;)Z" } : Jvm.MethodName)) ∈ lw_all := lw_g (lw_at lw_m7 153 rfl) rfl
theorem q2978 : (Jvm.Cond.instanceMethod ({ cls := "java/lang/IndexOutOfBoundsException", name := "<init>", desc := "(Ljava/lang/String;)V" } : Jvm.MethodName)) ∈ lw_all := lw_g (lw_at lw_m12 176 rfl) rfl
theorem q2979 : (Jvm.Cond.code ({ cls := "java/lang/IndexOutOfBoundsException", name := "<init>", desc := "(Ljava/lang/String;)V" } : Jvm.MethodName) prog_28_method_2_code (2 : Nat) (Option.none : Option Jvm.ClassFile.FieldType)) ∈ lw_all := lw_g (lw_at lw_m12 177 rfl) rfl
theorem q2980 : (Jvm.Cond.methodLink "java/lang/IndexOutOfBoundsException" (7 : Nat) ({ cls := "java/lang/RuntimeException", name := "<init>", desc := "(Ljava/lang/String;)V" } : Jvm.MethodName)) ∈ lw_all := lw_g (lw_at lw_m12 178 rfl) rfl
theorem q3003 : (Jvm.Cond.declares ({ cls := "java/lang/IndexOutOfBoundsException", name := "<init>", desc := "()V" } : Jvm.MethodName)) ∈ lw_tbl := lw_at lw_m12 201 rfl
theorem q3004 : (Jvm.Cond.declares ({ cls := "java/lang/IndexOutOfBoundsException", name := "<init>", desc := "(Ljava/lang/String;)V" } : Jvm.MethodName)) ∈ lw_tbl := lw_at lw_m12 202 rfl
theorem q3485 : (Jvm.Cond.instantiable "java/lang/IndexOutOfBoundsException" (6 : Nat)) ∈ lw_all := lw_g (lw_at lw_m14 203 rfl) rfl
theorem q3486 : (Jvm.Cond.castable "java/lang/IndexOutOfBoundsException" "java/lang/IndexOutOfBoundsException") ∈ lw_tbl := lw_at lw_m14 204 rfl
theorem q3487 : (Jvm.Cond.selects "java/lang/IndexOutOfBoundsException" ({ cls := "java/lang/Throwable", name := "fillInStackTrace", desc := "(I)Ljava/lang/Throwable;" } : Jvm.MethodName) ({ cls := "java/lang/Throwable", name := "fillInStackTrace", desc := "(I)Ljava/lang/Throwable;" } : Jvm.MethodName)) ∈ lw_all := lw_g (lw_at lw_m14 205 rfl) rfl
theorem q3488 : (Jvm.Cond.lays "java/lang/IndexOutOfBoundsException" "java/lang/Throwable" "cause" "Ljava/lang/Throwable;") ∈ lw_all := lw_g (lw_at lw_m14 206 rfl) rfl
theorem q3489 : (Jvm.Cond.lays "java/lang/IndexOutOfBoundsException" "java/lang/Throwable" "stackTrace" "[Ljava/lang/StackTraceElement;") ∈ lw_all := lw_g (lw_at lw_m14 207 rfl) rfl
theorem q3490 : (Jvm.Cond.lays "java/lang/IndexOutOfBoundsException" "java/lang/Throwable" "suppressedExceptions" "Ljava/util/List;") ∈ lw_all := lw_g (lw_at lw_m14 208 rfl) rfl
theorem q3491 : (Jvm.Cond.lays "java/lang/IndexOutOfBoundsException" "java/lang/Throwable" "detailMessage" "Ljava/lang/String;") ∈ lw_all := lw_g (lw_at lw_m14 209 rfl) rfl
theorem q3492 : (Jvm.Cond.lays "java/lang/IndexOutOfBoundsException" "java/lang/Throwable" "backtrace" "Ljava/lang/Object;") ∈ lw_all := lw_g (lw_at lw_m14 210 rfl) rfl
theorem q3494 : (Jvm.Cond.instanceMethod ({ cls := "java/lang/IndexOutOfBoundsException", name := "<init>", desc := "()V" } : Jvm.MethodName)) ∈ lw_all := lw_g (lw_at lw_m14 212 rfl) rfl
theorem q3495 : (Jvm.Cond.code ({ cls := "java/lang/IndexOutOfBoundsException", name := "<init>", desc := "()V" } : Jvm.MethodName) prog_28_method_1_code (1 : Nat) (Option.none : Option Jvm.ClassFile.FieldType)) ∈ lw_all := lw_g (lw_at lw_m14 213 rfl) rfl
theorem q3496 : (Jvm.Cond.methodLink "java/lang/IndexOutOfBoundsException" (1 : Nat) ({ cls := "java/lang/RuntimeException", name := "<init>", desc := "()V" } : Jvm.MethodName)) ∈ lw_all := lw_g (lw_at lw_m14 214 rfl) rfl
theorem q3497 : (Jvm.Cond.lays "java/lang/IndexOutOfBoundsException" "java/lang/Throwable" "depth" "I") ∈ lw_all := lw_g (lw_at lw_m14 215 rfl) rfl
theorem q3498 : (Jvm.Cond.superclass "java/lang/IndexOutOfBoundsException" "java/lang/RuntimeException") ∈ lw_all := lw_g (lw_at lw_m14 216 rfl) rfl
theorem q4605 : (Jvm.Cond.castable "java/lang/IndexOutOfBoundsException" "java/lang/Throwable") ∈ lw_tbl := lw_at lw_m19 123 rfl
theorem q4647 : (Jvm.Cond.castable "java/lang/IndexOutOfBoundsException" "java/lang/Object") ∈ lw_tbl := lw_at lw_m19 165 rfl
theorem q229 : (Jvm.Cond.initialized "java/lang/ArrayIndexOutOfBoundsException") ∈ lw_all := lw_g (lw_at lw_m1 67 rfl) rfl
theorem q298 : (Jvm.Cond.selects "java/lang/ArrayIndexOutOfBoundsException" ({ cls := "java/lang/Throwable", name := "fillInStackTrace", desc := "()Ljava/lang/Throwable;" } : Jvm.MethodName) ({ cls := "java/lang/Throwable", name := "fillInStackTrace", desc := "()Ljava/lang/Throwable;" } : Jvm.MethodName)) ∈ lw_all := lw_g (lw_at lw_m1 136 rfl) rfl
theorem q983 : (Jvm.Cond.selects "java/lang/ArrayIndexOutOfBoundsException" ({ cls := "java/lang/Object", name := "getClass", desc := "()Ljava/lang/Class;" } : Jvm.MethodName) ({ cls := "java/lang/Object", name := "getClass", desc := "()Ljava/lang/Class;" } : Jvm.MethodName)) ∈ lw_all := lw_g (lw_at lw_m4 101 rfl) rfl
theorem q1018 : (Jvm.Cond.selects "java/lang/ArrayIndexOutOfBoundsException" ({ cls := "java/lang/Throwable", name := "getLocalizedMessage", desc := "()Ljava/lang/String;" } : Jvm.MethodName) ({ cls := "java/lang/Throwable", name := "getLocalizedMessage", desc := "()Ljava/lang/String;" } : Jvm.MethodName)) ∈ lw_all := lw_g (lw_at lw_m4 136 rfl) rfl
theorem q1029 : (Jvm.Cond.selects "java/lang/ArrayIndexOutOfBoundsException" ({ cls := "java/lang/Throwable", name := "getMessage", desc := "()Ljava/lang/String;" } : Jvm.MethodName) ({ cls := "java/lang/Throwable", name := "getMessage", desc := "()Ljava/lang/String;" } : Jvm.MethodName)) ∈ lw_all := lw_g (lw_at lw_m4 147 rfl) rfl
theorem q1048 : (Jvm.Cond.selects "java/lang/ArrayIndexOutOfBoundsException" ({ cls := "java/lang/Object", name := "toString", desc := "()Ljava/lang/String;" } : Jvm.MethodName) ({ cls := "java/lang/Throwable", name := "toString", desc := "()Ljava/lang/String;" } : Jvm.MethodName)) ∈ lw_all := lw_g (lw_at lw_m4 166 rfl) rfl
theorem q1659 : (Jvm.Cond.selects "java/lang/ArrayIndexOutOfBoundsException" ({ cls := "java/lang/Object", name := "hashCode", desc := "()I" } : Jvm.MethodName) ({ cls := "java/lang/Object", name := "hashCode", desc := "()I" } : Jvm.MethodName)) ∈ lw_all := lw_g (lw_at lw_m7 57 rfl) rfl
theorem q1751 : (Jvm.Cond.selects "java/lang/ArrayIndexOutOfBoundsException" ({ cls := "java/lang/Object", name := "equals", desc := "(Ljava/lang/Object;)Z" } : Jvm.MethodName) ({ cls := "java/lang/Object", name := "equals", desc := "(Ljava/lang/Object;)Z" } : Jvm.MethodName)) ∈ lw_all := lw_g (lw_at lw_m7 149 rfl) rfl
theorem q3001 : (Jvm.Cond.instantiable "java/lang/ArrayIndexOutOfBoundsException" (6 : Nat)) ∈ lw_all := lw_g (lw_at lw_m12 199 rfl) rfl
theorem q3002 : (Jvm.Cond.castable "java/lang/ArrayIndexOutOfBoundsException" "java/lang/ArrayIndexOutOfBoundsException") ∈ lw_tbl := lw_at lw_m12 200 rfl
theorem q3005 : (Jvm.Cond.selects "java/lang/ArrayIndexOutOfBoundsException" ({ cls := "java/lang/Throwable", name := "fillInStackTrace", desc := "(I)Ljava/lang/Throwable;" } : Jvm.MethodName) ({ cls := "java/lang/Throwable", name := "fillInStackTrace", desc := "(I)Ljava/lang/Throwable;" } : Jvm.MethodName)) ∈ lw_all := lw_g (lw_at lw_m12 203 rfl) rfl
theorem q3006 : (Jvm.Cond.lays "java/lang/ArrayIndexOutOfBoundsException" "java/lang/Throwable" "cause" "Ljava/lang/Throwable;") ∈ lw_all := lw_g (lw_at lw_m12 204 rfl) rfl
theorem q3007 : (Jvm.Cond.lays "java/lang/ArrayIndexOutOfBoundsException" "java/lang/Throwable" "stackTrace" "[Ljava/lang/StackTraceElement;") ∈ lw_all := lw_g (lw_at lw_m12 205 rfl) rfl
theorem q3008 : (Jvm.Cond.lays "java/lang/ArrayIndexOutOfBoundsException" "java/lang/Throwable" "suppressedExceptions" "Ljava/util/List;") ∈ lw_all := lw_g (lw_at lw_m12 206 rfl) rfl
theorem q3009 : (Jvm.Cond.lays "java/lang/ArrayIndexOutOfBoundsException" "java/lang/Throwable" "detailMessage" "Ljava/lang/String;") ∈ lw_all := lw_g (lw_at lw_m12 207 rfl) rfl
theorem q3010 : (Jvm.Cond.lays "java/lang/ArrayIndexOutOfBoundsException" "java/lang/Throwable" "backtrace" "Ljava/lang/Object;") ∈ lw_all := lw_g (lw_at lw_m12 208 rfl) rfl
theorem q3012 : (Jvm.Cond.instanceMethod ({ cls := "java/lang/ArrayIndexOutOfBoundsException", name := "<init>", desc := "(I)V" } : Jvm.MethodName)) ∈ lw_all := lw_g (lw_at lw_m12 210 rfl) rfl
theorem q3013 : (Jvm.Cond.code ({ cls := "java/lang/ArrayIndexOutOfBoundsException", name := "<init>", desc := "(I)V" } : Jvm.MethodName) prog_16_method_3_code (2 : Nat) (Option.none : Option Jvm.ClassFile.FieldType)) ∈ lw_all := lw_g (lw_at lw_m12 211 rfl) rfl
theorem q3014 : (Jvm.Cond.classLink "java/lang/ArrayIndexOutOfBoundsException" (10 : Nat) "java/lang/StringBuilder") ∈ lw_all := lw_g (lw_at lw_m12 212 rfl) rfl
theorem q3015 : (Jvm.Cond.methodLink "java/lang/ArrayIndexOutOfBoundsException" (12 : Nat) ({ cls := "java/lang/StringBuilder", name := "<init>", desc := "()V" } : Jvm.MethodName)) ∈ lw_all := lw_g (lw_at lw_m12 213 rfl) rfl
theorem q3016 : (Jvm.Cond.stringRef "java/lang/ArrayIndexOutOfBoundsException" (13 : Nat) "Array index out of range: ") ∈ lw_tbl := lw_at lw_m12 214 rfl
theorem q3017 : (Jvm.Cond.methodLink "java/lang/ArrayIndexOutOfBoundsException" (15 : Nat) ({ cls := "java/lang/StringBuilder", name := "append", desc := "(Ljava/lang/String;)Ljava/lang/StringBuilder;" } : Jvm.MethodName)) ∈ lw_all := lw_g (lw_at lw_m12 215 rfl) rfl
theorem q3018 : (Jvm.Cond.methodLink "java/lang/ArrayIndexOutOfBoundsException" (19 : Nat) ({ cls := "java/lang/StringBuilder", name := "append", desc := "(I)Ljava/lang/StringBuilder;" } : Jvm.MethodName)) ∈ lw_all := lw_g (lw_at lw_m12 216 rfl) rfl
theorem q3019 : (Jvm.Cond.methodLink "java/lang/ArrayIndexOutOfBoundsException" (22 : Nat) ({ cls := "java/lang/StringBuilder", name := "toString", desc := "()Ljava/lang/String;" } : Jvm.MethodName)) ∈ lw_all := lw_g (lw_at lw_m12 217 rfl) rfl
theorem q3020 : (Jvm.Cond.methodLink "java/lang/ArrayIndexOutOfBoundsException" (7 : Nat) ({ cls := "java/lang/IndexOutOfBoundsException", name := "<init>", desc := "(Ljava/lang/String;)V" } : Jvm.MethodName)) ∈ lw_all := lw_g (lw_at lw_m12 218 rfl) rfl
theorem q3021 : (Jvm.Cond.lays "java/lang/ArrayIndexOutOfBoundsException" "java/lang/Throwable" "depth" "I") ∈ lw_all := lw_g (lw_at lw_m12 219 rfl) rfl
theorem q3022 : (Jvm.Cond.superclass "java/lang/ArrayIndexOutOfBoundsException" "java/lang/IndexOutOfBoundsException") ∈ lw_all := lw_g (lw_at lw_m12 220 rfl) rfl
theorem q3471 : (Jvm.Cond.instanceMethod ({ cls := "java/lang/ArrayIndexOutOfBoundsException", name := "<init>", desc := "(Ljava/lang/String;)V" } : Jvm.MethodName)) ∈ lw_all := lw_g (lw_at lw_m14 189 rfl) rfl
theorem q3472 : (Jvm.Cond.code ({ cls := "java/lang/ArrayIndexOutOfBoundsException", name := "<init>", desc := "(Ljava/lang/String;)V" } : Jvm.MethodName) prog_16_method_2_code (2 : Nat) (Option.none : Option Jvm.ClassFile.FieldType)) ∈ lw_all := lw_g (lw_at lw_m14 190 rfl) rfl
theorem q4593 : (Jvm.Cond.castable "java/lang/ArrayIndexOutOfBoundsException" "java/lang/IndexOutOfBoundsException") ∈ lw_tbl := lw_at lw_m19 111 rfl
theorem q4601 : (Jvm.Cond.castable "java/lang/ArrayIndexOutOfBoundsException" "java/lang/Throwable") ∈ lw_tbl := lw_at lw_m19 119 rfl
theorem q4646 : (Jvm.Cond.castable "java/lang/ArrayIndexOutOfBoundsException" "java/lang/Object") ∈ lw_tbl := lw_at lw_m19 164 rfl
theorem q230 : (Jvm.Cond.initialized "java/lang/StringIndexOutOfBoundsException") ∈ lw_all := lw_g (lw_at lw_m1 68 rfl) rfl
theorem q302 : (Jvm.Cond.selects "java/lang/StringIndexOutOfBoundsException" ({ cls := "java/lang/Throwable", name := "fillInStackTrace", desc := "()Ljava/lang/Throwable;" } : Jvm.MethodName) ({ cls := "java/lang/Throwable", name := "fillInStackTrace", desc := "()Ljava/lang/Throwable;" } : Jvm.MethodName)) ∈ lw_all := lw_g (lw_at lw_m1 140 rfl) rfl
theorem q991 : (Jvm.Cond.selects "java/lang/StringIndexOutOfBoundsException" ({ cls := "java/lang/Object", name := "getClass", desc := "()Ljava/lang/Class;" } : Jvm.MethodName) ({ cls := "java/lang/Object", name := "getClass", desc := "()Ljava/lang/Class;" } : Jvm.MethodName)) ∈ lw_all := lw_g (lw_at lw_m4 109 rfl) rfl
theorem q1023 : (Jvm.Cond.selects "java/lang/StringIndexOutOfBoundsException" ({ cls := "java/lang/Throwable", name := "getLocalizedMessage", desc := "()Ljava/lang/String;" } : Jvm.MethodName) ({ cls := "java/lang/Throwable", name := "getLocalizedMessage", desc := "()Ljava/lang/String;" } : Jvm.MethodName)) ∈ lw_all := lw_g (lw_at lw_m4 141 rfl) rfl
theorem q1034 : (Jvm.Cond.selects "java/lang/StringIndexOutOfBoundsException" ({ cls := "java/lang/Throwable", name := "getMessage", desc := "()Ljava/lang/String;" } : Jvm.MethodName) ({ cls := "java/lang/Throwable", name := "getMessage", desc := "()Ljava/lang/String;" } : Jvm.MethodName)) ∈ lw_all := lw_g (lw_at lw_m4 152 rfl) rfl
theorem q1071 : (Jvm.Cond.selects "java/lang/StringIndexOutOfBoundsException" ({ cls := "java/lang/Object", name := "toString", desc := "()Ljava/lang/String;" } : Jvm.MethodName) ({ cls := "java/lang/Throwable", name := "toString", desc := "()Ljava/lang/String;" } : Jvm.MethodName)) ∈ lw_all := lw_g (lw_at lw_m4 189 rfl) rfl
theorem q1727 : (Jvm.Cond.selects "java/lang/StringIndexOutOfBoundsException" ({ cls := "java/lang/Object", name := "hashCode", desc := "()I" } : Jvm.MethodName) ({ cls := "java/lang/Object", name := "hashCode", desc := "()I" } : Jvm.MethodName)) ∈ lw_all := lw_g (lw_at lw_m7 125 rfl) rfl
theorem q1766 : (Jvm.Cond.selects "java/lang/StringIndexOutOfBoundsException" ({ cls := "java/lang/Object", name := "equals", desc := "(Ljava/lang/Object;)Z" } : Jvm.MethodName) ({ cls := "java/lang/Object", name := "equals", desc := "(Ljava/lang/Object;)Z" } : Jvm.MethodName)) ∈ lw_all := lw_g (lw_at lw_m7 164 rfl) rfl
theorem q2967 : (Jvm.Cond.instantiable "java/lang/StringIndexOutOfBoundsException" (6 : Nat)) ∈ lw_all := lw_g (lw_at lw_m12 165 rfl) rfl
theorem q2969 : (Jvm.Cond.instanceMethod ({ cls := "java/lang/StringIndexOutOfBoundsException", name := "<init>", desc := "(I)V" } : Jvm.MethodName)) ∈ lw_all := lw_g (lw_at lw_m12 167 rfl) rfl
theorem q2970 : (Jvm.Cond.code ({ cls := "java/lang/StringIndexOutOfBoundsException", name := "<init>", desc := "(I)V" } : Jvm.MethodName) prog_40_method_3_code (2 : Nat) (Option.none : Option Jvm.ClassFile.FieldType)) ∈ lw_all := lw_g (lw_at lw_m12 168 rfl) rfl
theorem q2971 : (Jvm.Cond.classLink "java/lang/StringIndexOutOfBoundsException" (10 : Nat) "java/lang/StringBuilder") ∈ lw_all := lw_g (lw_at lw_m12 169 rfl) rfl
theorem q2972 : (Jvm.Cond.methodLink "java/lang/StringIndexOutOfBoundsException" (12 : Nat) ({ cls := "java/lang/StringBuilder", name := "<init>", desc := "()V" } : Jvm.MethodName)) ∈ lw_all := lw_g (lw_at lw_m12 170 rfl) rfl
theorem q2973 : (Jvm.Cond.stringRef "java/lang/StringIndexOutOfBoundsException" (13 : Nat) "String index out of range: ") ∈ lw_tbl := lw_at lw_m12 171 rfl
theorem q2974 : (Jvm.Cond.methodLink "java/lang/StringIndexOutOfBoundsException" (15 : Nat) ({ cls := "java/lang/StringBuilder", name := "append", desc := "(Ljava/lang/String;)Ljava/lang/StringBuilder;" } : Jvm.MethodName)) ∈ lw_all := lw_g (lw_at lw_m12 172 rfl) rfl
theorem q2975 : (Jvm.Cond.methodLink "java/lang/StringIndexOutOfBoundsException" (19 : Nat) ({ cls := "java/lang/StringBuilder", name := "append", desc := "(I)Ljava/lang/StringBuilder;" } : Jvm.MethodName)) ∈ lw_all := lw_g (lw_at lw_m12 173 rfl) rfl
theorem q2976 : (Jvm.Cond.methodLink "java/lang/StringIndexOutOfBoundsException" (22 : Nat) ({ cls := "java/lang/StringBuilder", name := "toString", desc := "()Ljava/lang/String;" } : Jvm.MethodName)) ∈ lw_all := lw_g (lw_at lw_m12 174 rfl) rfl
theorem q2977 : (Jvm.Cond.methodLink "java/lang/StringIndexOutOfBoundsException" (7 : Nat) ({ cls := "java/lang/IndexOutOfBoundsException", name := "<init>", desc := "(Ljava/lang/String;)V" } : Jvm.MethodName)) ∈ lw_all := lw_g (lw_at lw_m12 175 rfl) rfl
theorem q2981 : (Jvm.Cond.lays "java/lang/StringIndexOutOfBoundsException" "java/lang/Throwable" "backtrace" "Ljava/lang/Object;") ∈ lw_all := lw_g (lw_at lw_m12 179 rfl) rfl
theorem q2982 : (Jvm.Cond.lays "java/lang/StringIndexOutOfBoundsException" "java/lang/Throwable" "detailMessage" "Ljava/lang/String;") ∈ lw_all := lw_g (lw_at lw_m12 180 rfl) rfl
theorem q2983 : (Jvm.Cond.lays "java/lang/StringIndexOutOfBoundsException" "java/lang/Throwable" "cause" "Ljava/lang/Throwable;") ∈ lw_all := lw_g (lw_at lw_m12 181 rfl) rfl
theorem q2984 : (Jvm.Cond.lays "java/lang/StringIndexOutOfBoundsException" "java/lang/Throwable" "stackTrace" "[Ljava/lang/StackTraceElement;") ∈ lw_all := lw_g (lw_at lw_m12 182 rfl) rfl
theorem q2985 : (Jvm.Cond.lays "java/lang/StringIndexOutOfBoundsException" "java/lang/Throwable" "depth" "I") ∈ lw_all := lw_g (lw_at lw_m12 183 rfl) rfl
theorem q2986 : (Jvm.Cond.lays "java/lang/StringIndexOutOfBoundsException" "java/lang/Throwable" "suppressedExceptions" "Ljava/util/List;") ∈ lw_all := lw_g (lw_at lw_m12 184 rfl) rfl
theorem q2987 : (Jvm.Cond.superclass "java/lang/StringIndexOutOfBoundsException" "java/lang/IndexOutOfBoundsException") ∈ lw_all := lw_g (lw_at lw_m12 185 rfl) rfl
theorem q4594 : (Jvm.Cond.castable "java/lang/StringIndexOutOfBoundsException" "java/lang/IndexOutOfBoundsException") ∈ lw_tbl := lw_at lw_m19 112 rfl
theorem q4606 : (Jvm.Cond.castable "java/lang/StringIndexOutOfBoundsException" "java/lang/Throwable") ∈ lw_tbl := lw_at lw_m19 124 rfl
theorem q4648 : (Jvm.Cond.castable "java/lang/StringIndexOutOfBoundsException" "java/lang/Object") ∈ lw_tbl := lw_at lw_m19 166 rfl
theorem q237 : (Jvm.Cond.instanceMethod ({ cls := "java/lang/Object", name := "<init>", desc := "()V" } : Jvm.MethodName)) ∈ lw_all := lw_g (lw_at lw_m1 75 rfl) rfl
theorem q238 : (Jvm.Cond.code ({ cls := "java/lang/Object", name := "<init>", desc := "()V" } : Jvm.MethodName) object_method_1_code (1 : Nat) (Option.none : Option Jvm.ClassFile.FieldType)) ∈ lw_all := lw_g (lw_at lw_m1 76 rfl) rfl
theorem q379 : (Jvm.Cond.native ({ cls := "java/lang/Object", name := "clone", desc := "()Ljava/lang/Object;" } : Jvm.MethodName)) ∈ lw_all := lw_g (lw_at lw_m1 217 rfl) rfl
theorem q380 : (Jvm.Cond.instanceMethod ({ cls := "java/lang/Object", name := "clone", desc := "()Ljava/lang/Object;" } : Jvm.MethodName)) ∈ lw_all := lw_g (lw_at lw_m1 218 rfl) rfl
theorem q959 : (Jvm.Cond.declares ({ cls := "java/lang/Object", name := "toString", desc := "()Ljava/lang/String;" } : Jvm.MethodName)) ∈ lw_tbl := lw_at lw_m4 77 rfl
theorem q961 : (Jvm.Cond.instanceMethod ({ cls := "java/lang/Object", name := "toString", desc := "()Ljava/lang/String;" } : Jvm.MethodName)) ∈ lw_all := lw_g (lw_at lw_m4 79 rfl) rfl
theorem q962 : (Jvm.Cond.sameMethod "java/lang/Object" "java/lang/Object" "toString" "()Ljava/lang/String;") ∈ lw_all := lw_g (lw_at lw_m4 80 rfl) rfl
theorem q971 : (Jvm.Cond.instanceMethod ({ cls := "java/lang/Object", name := "getClass", desc := "()Ljava/lang/Class;" } : Jvm.MethodName)) ∈ lw_all := lw_g (lw_at lw_m4 89 rfl) rfl
theorem q972 : (Jvm.Cond.sameMethod "java/lang/Object" "java/lang/Object" "getClass" "()Ljava/lang/Class;") ∈ lw_all := lw_g (lw_at lw_m4 90 rfl) rfl
theorem q1013 : (Jvm.Cond.native ({ cls := "java/lang/Object", name := "getClass", desc := "()Ljava/lang/Class;" } : Jvm.MethodName)) ∈ lw_all := lw_g (lw_at lw_m4 131 rfl) rfl
theorem q1638 : (Jvm.Cond.declares ({ cls := "java/lang/Object", name := "hashCode", desc := "()I" } : Jvm.MethodName)) ∈ lw_tbl := lw_at lw_m7 36 rfl
theorem q1640 : (Jvm.Cond.instanceMethod ({ cls := "java/lang/Object", name := "hashCode", desc := "()I" } : Jvm.MethodName)) ∈ lw_all := lw_g (lw_at lw_m7 38 rfl) rfl
theorem q1641 : (Jvm.Cond.sameMethod "java/lang/Object" "java/lang/Object" "hashCode" "()I") ∈ lw_all := lw_g (lw_at lw_m7 39 rfl) rfl
theorem q1731 : (Jvm.Cond.native ({ cls := "java/lang/Object", name := "hashCode", desc := "()I" } : Jvm.MethodName)) ∈ lw_all := lw_g (lw_at lw_m7 129 rfl) rfl
theorem q1732 : (Jvm.Cond.declares ({ cls := "java/lang/Object", name := "equals", desc := "(Ljava/lang/Object;)Z" } : Jvm.MethodName)) ∈ lw_tbl := lw_at lw_m7 130 rfl
theorem q1734 : (Jvm.Cond.instanceMethod ({ cls := "java/lang/Object", name := "equals", desc := "(Ljava/lang/Object;)Z" } : Jvm.MethodName)) ∈ lw_all := lw_g (lw_at lw_m7 132 rfl) rfl
theorem q1735 : (Jvm.Cond.sameMethod "java/lang/Object" "java/lang/Object" "equals" "(Ljava/lang/Object;)Z") ∈ lw_all := lw_g (lw_at lw_m7 133 rfl) rfl
theorem q1770 : (Jvm.Cond.code ({ cls := "java/lang/Object", name := "equals", desc := "(Ljava/lang/Object;)Z" } : Jvm.MethodName) object_method_4_code (2 : Nat) (Option.some Jvm.ClassFile.FieldType.boolean)) ∈ lw_all := lw_g (lw_at lw_m7 168 rfl) rfl
theorem q4592 : (Jvm.Cond.initialized "java/lang/Object") ∈ lw_all := lw_g (lw_at lw_m19 110 rfl) rfl
theorem q4654 : (Jvm.Cond.declares ({ cls := "java/lang/Object", name := "getClass", desc := "()Ljava/lang/Class;" } : Jvm.MethodName)) ∈ lw_tbl := lw_at lw_m19 172 rfl
theorem q4672 : (Jvm.Cond.instantiable "java/lang/Object" (0 : Nat)) ∈ lw_all := lw_g (lw_at lw_m19 190 rfl) rfl
theorem q992 : (Jvm.Cond.selects "java/lang/System$2" ({ cls := "java/lang/Object", name := "getClass", desc := "()Ljava/lang/Class;" } : Jvm.MethodName) ({ cls := "java/lang/Object", name := "getClass", desc := "()Ljava/lang/Class;" } : Jvm.MethodName)) ∈ lw_all := lw_g (lw_at lw_m4 110 rfl) rfl
theorem q1072 : (Jvm.Cond.selects "java/lang/System$2" ({ cls := "java/lang/Object", name := "toString", desc := "()Ljava/lang/String;" } : Jvm.MethodName) ({ cls := "java/lang/Object", name := "toString", desc := "()Ljava/lang/String;" } : Jvm.MethodName)) ∈ lw_all := lw_g (lw_at lw_m4 190 rfl) rfl
theorem q1692 : (Jvm.Cond.castable "java/lang/System$2" "jdk/internal/access/JavaLangAccess") ∈ lw_tbl := lw_at lw_m7 90 rfl
theorem q1693 : (Jvm.Cond.selects "java/lang/System$2" ({ cls := "jdk/internal/access/JavaLangAccess", name := "getUTF16Char", desc := "([BI)C" } : Jvm.MethodName) ({ cls := "java/lang/System$2", name := "getUTF16Char", desc := "([BI)C" } : Jvm.MethodName)) ∈ lw_all := lw_g (lw_at lw_m7 91 rfl) rfl
theorem q1694 : (Jvm.Cond.unhidden "java/lang/System$2" "getUTF16Char" "([BI)C") ∈ lw_tbl := lw_at lw_m7 92 rfl
theorem q1695 : (Jvm.Cond.instanceMethod ({ cls := "java/lang/System$2", name := "getUTF16Char", desc := "([BI)C" } : Jvm.MethodName)) ∈ lw_all := lw_g (lw_at lw_m7 93 rfl) rfl
theorem q1696 : (Jvm.Cond.publicMethod ({ cls := "java/lang/System$2", name := "getUTF16Char", desc := "([BI)C" } : Jvm.MethodName)) ∈ lw_tbl := lw_at lw_m7 94 rfl
theorem q1697 : (Jvm.Cond.code ({ cls := "java/lang/System$2", name := "getUTF16Char", desc := "([BI)C" } : Jvm.MethodName) prog_44_method_45_code (3 : Nat) (Option.some Jvm.ClassFile.FieldType.char)) ∈ lw_all := lw_g (lw_at lw_m7 95 rfl) rfl
theorem q1698 : (Jvm.Cond.methodLink "java/lang/System$2" (185 : Nat) ({ cls := "java/lang/StringUTF16", name := "getChar", desc := "([BI)C" } : Jvm.MethodName)) ∈ lw_all := lw_g (lw_at lw_m7 96 rfl) rfl
theorem q1728 : (Jvm.Cond.selects "java/lang/System$2" ({ cls := "java/lang/Object", name := "hashCode", desc := "()I" } : Jvm.MethodName) ({ cls := "java/lang/Object", name := "hashCode", desc := "()I" } : Jvm.MethodName)) ∈ lw_all := lw_g (lw_at lw_m7 126 rfl) rfl
theorem q1767 : (Jvm.Cond.selects "java/lang/System$2" ({ cls := "java/lang/Object", name := "equals", desc := "(Ljava/lang/Object;)Z" } : Jvm.MethodName) ({ cls := "java/lang/Object", name := "equals", desc := "(Ljava/lang/Object;)Z" } : Jvm.MethodName)) ∈ lw_all := lw_g (lw_at lw_m7 165 rfl) rfl
theorem q4620 : (Jvm.Cond.castable "java/lang/System$2" "java/lang/Object") ∈ lw_tbl := lw_at lw_m19 138 rfl
theorem q171 : (Jvm.Cond.initialized "java/lang/IllegalArgumentException") ∈ lw_all := lw_g (lw_at lw_m1 9 rfl) rfl
theorem q265 : (Jvm.Cond.instantiable "java/lang/IllegalArgumentException" (6 : Nat)) ∈ lw_all := lw_g (lw_at lw_m1 103 rfl) rfl
theorem q266 : (Jvm.Cond.castable "java/lang/IllegalArgumentException" "java/lang/IllegalArgumentException") ∈ lw_tbl := lw_at lw_m1 104 rfl
theorem q273 : (Jvm.Cond.selects "java/lang/IllegalArgumentException" ({ cls := "java/lang/Throwable", name := "fillInStackTrace", desc := "(I)Ljava/lang/Throwable;" } : Jvm.MethodName) ({ cls := "java/lang/Throwable", name := "fillInStackTrace", desc := "(I)Ljava/lang/Throwable;" } : Jvm.MethodName)) ∈ lw_all := lw_g (lw_at lw_m1 111 rfl) rfl
theorem q274 : (Jvm.Cond.selects "java/lang/IllegalArgumentException" ({ cls := "java/lang/Throwable", name := "fillInStackTrace", desc := "()Ljava/lang/Throwable;" } : Jvm.MethodName) ({ cls := "java/lang/Throwable", name := "fillInStackTrace", desc := "()Ljava/lang/Throwable;" } : Jvm.MethodName)) ∈ lw_all := lw_g (lw_at lw_m1 112 rfl) rfl
theorem q275 : (Jvm.Cond.lays "java/lang/IllegalArgumentException" "java/lang/Throwable" "cause" "Ljava/lang/Throwable;") ∈ lw_all := lw_g (lw_at lw_m1 113 rfl) rfl
theorem q277 : (Jvm.Cond.lays "java/lang/IllegalArgumentException" "java/lang/Throwable" "stackTrace" "[Ljava/lang/StackTraceElement;") ∈ lw_all := lw_g (lw_at lw_m1 115 rfl) rfl
theorem q279 : (Jvm.Cond.lays "java/lang/IllegalArgumentException" "java/lang/Throwable" "suppressedExceptions" "Ljava/util/List;") ∈ lw_all := lw_g (lw_at lw_m1 117 rfl) rfl
theorem q281 : (Jvm.Cond.lays "java/lang/IllegalArgumentException" "java/lang/Throwable" "detailMessage" "Ljava/lang/String;") ∈ lw_all := lw_g (lw_at lw_m1 119 rfl) rfl
theorem q283 : (Jvm.Cond.lays "java/lang/IllegalArgumentException" "java/lang/Throwable" "backtrace" "Ljava/lang/Object;") ∈ lw_all := lw_g (lw_at lw_m1 121 rfl) rfl
theorem q533 : (Jvm.Cond.instanceMethod ({ cls := "java/lang/IllegalArgumentException", name := "<init>", desc := "(Ljava/lang/String;)V" } : Jvm.MethodName)) ∈ lw_all := lw_g (lw_at lw_m2 131 rfl) rfl
theorem q534 : (Jvm.Cond.code ({ cls := "java/lang/IllegalArgumentException", name := "<init>", desc := "(Ljava/lang/String;)V" } : Jvm.MethodName) prog_26_method_2_code (2 : Nat) (Option.none : Option Jvm.ClassFile.FieldType)) ∈ lw_all := lw_g (lw_at lw_m2 132 rfl) rfl
theorem q535 : (Jvm.Cond.methodLink "java/lang/IllegalArgumentException" (7 : Nat) ({ cls := "java/lang/RuntimeException", name := "<init>", desc := "(Ljava/lang/String;)V" } : Jvm.MethodName)) ∈ lw_all := lw_g (lw_at lw_m2 133 rfl) rfl
theorem q553 : (Jvm.Cond.lays "java/lang/IllegalArgumentException" "java/lang/Throwable" "depth" "I") ∈ lw_all := lw_g (lw_at lw_m2 151 rfl) rfl
theorem q556 : (Jvm.Cond.superclass "java/lang/IllegalArgumentException" "java/lang/RuntimeException") ∈ lw_all := lw_g (lw_at lw_m2 154 rfl) rfl
theorem q985 : (Jvm.Cond.selects "java/lang/IllegalArgumentException" ({ cls := "java/lang/Object", name := "getClass", desc := "()Ljava/lang/Class;" } : Jvm.MethodName) ({ cls := "java/lang/Object", name := "getClass", desc := "()Ljava/lang/Class;" } : Jvm.MethodName)) ∈ lw_all := lw_g (lw_at lw_m4 103 rfl) rfl
theorem q1020 : (Jvm.Cond.selects "java/lang/IllegalArgumentException" ({ cls := "java/lang/Throwable", name := "getLocalizedMessage", desc := "()Ljava/lang/String;" } : Jvm.MethodName) ({ cls := "java/lang/Throwable", name := "getLocalizedMessage", desc := "()Ljava/lang/String;" } : Jvm.MethodName)) ∈ lw_all := lw_g (lw_at lw_m4 138 rfl) rfl
theorem q1031 : (Jvm.Cond.selects "java/lang/IllegalArgumentException" ({ cls := "java/lang/Throwable", name := "getMessage", desc := "()Ljava/lang/String;" } : Jvm.MethodName) ({ cls := "java/lang/Throwable", name := "getMessage", desc := "()Ljava/lang/String;" } : Jvm.MethodName)) ∈ lw_all := lw_g (lw_at lw_m4 149 rfl) rfl
theorem q1050 : (Jvm.Cond.selects "java/lang/IllegalArgumentException" ({ cls := "java/lang/Object", name := "toString", desc := "()Ljava/lang/String;" } : Jvm.MethodName) ({ cls := "java/lang/Throwable", name := "toString", desc := "()Ljava/lang/String;" } : Jvm.MethodName)) ∈ lw_all := lw_g (lw_at lw_m4 168 rfl) rfl
theorem q1124 : (Jvm.Cond.instanceMethod ({ cls := "java/lang/IllegalArgumentException", name := "<init>", desc := "(Ljava/lang/String;Ljava/lang/Throwable;)V" } : Jvm.MethodName)) ∈ lw_all := lw_g (lw_at lw_m5 2 rfl) rfl
theorem q1125 : (Jvm.Cond.code ({ cls := "java/lang/IllegalArgumentException", name := "<init>", desc := "(Ljava/lang/String;Ljava/lang/Throwable;)V" } : Jvm.MethodName) prog_26_method_3_code (3 : Nat) (Option.none : Option Jvm.ClassFile.FieldType)) ∈ lw_all := lw_g (lw_at lw_m5 3 rfl) rfl
theorem q1126 : (Jvm.Cond.methodLink "java/lang/IllegalArgumentException" (10 : Nat) ({ cls := "java/lang/RuntimeException", name := "<init>", desc := "(Ljava/lang/String;Ljava/lang/Throwable;)V" } : Jvm.MethodName)) ∈ lw_all := lw_g (lw_at lw_m5 4 rfl) rfl
theorem q1661 : (Jvm.Cond.selects "java/lang/IllegalArgumentException" ({ cls := "java/lang/Object", name := "hashCode", desc := "()I" } : Jvm.MethodName) ({ cls := "java/lang/Object", name := "hashCode", desc := "()I" } : Jvm.MethodName)) ∈ lw_all := lw_g (lw_at lw_m7 59 rfl) rfl
theorem q1753 : (Jvm.Cond.selects "java/lang/IllegalArgumentException" ({ cls := "java/lang/Object", name := "equals", desc := "(Ljava/lang/Object;)Z" } : Jvm.MethodName) ({ cls := "java/lang/Object", name := "equals", desc := "(Ljava/lang/Object;)Z" } : Jvm.MethodName)) ∈ lw_all := lw_g (lw_at lw_m7 151 rfl) rfl
theorem q3073 : (Jvm.Cond.instanceMethod ({ cls := "java/lang/IllegalArgumentException", name := "<init>", desc := "()V" } : Jvm.MethodName)) ∈ lw_all := lw_g (lw_at lw_m13 31 rfl) rfl
theorem q3074 : (Jvm.Cond.code ({ cls := "java/lang/IllegalArgumentException", name := "<init>", desc := "()V" } : Jvm.MethodName) prog_26_method_1_code (1 : Nat) (Option.none : Option Jvm.ClassFile.FieldType)) ∈ lw_all := lw_g (lw_at lw_m13 32 rfl) rfl
theorem q3075 : (Jvm.Cond.methodLink "java/lang/IllegalArgumentException" (1 : Nat) ({ cls := "java/lang/RuntimeException", name := "<init>", desc := "()V" } : Jvm.MethodName)) ∈ lw_all := lw_g (lw_at lw_m13 33 rfl) rfl
theorem q4603 : (Jvm.Cond.castable "java/lang/IllegalArgumentException" "java/lang/Throwable") ∈ lw_tbl := lw_at lw_m19 121 rfl
theorem q4613 : (Jvm.Cond.castable "java/lang/IllegalArgumentException" "java/lang/Object") ∈ lw_tbl := lw_at lw_m19 131 rfl
theorem q172 : (Jvm.Cond.initialized "java/lang/AbstractStringBuilder") ∈ lw_all := lw_g (lw_at lw_m1 10 rfl) rfl
theorem q315 : (Jvm.Cond.instanceMethod ({ cls := "java/lang/AbstractStringBuilder", name := "<init>", desc := "(I)V" } : Jvm.MethodName)) ∈ lw_all := lw_g (lw_at lw_m1 153 rfl) rfl
theorem q316 : (Jvm.Cond.code ({ cls := "java/lang/AbstractStringBuilder", name := "<init>", desc := "(I)V" } : Jvm.MethodName) prog_14_method_2_code (2 : Nat) (Option.none : Option Jvm.ClassFile.FieldType)) ∈ lw_all := lw_g (lw_at lw_m1 154 rfl) rfl
theorem q317 : (Jvm.Cond.methodLink "java/lang/AbstractStringBuilder" (3 : Nat) ({ cls := "java/lang/Object", name := "<init>", desc := "()V" } : Jvm.MethodName)) ∈ lw_all := lw_g (lw_at lw_m1 155 rfl) rfl
theorem q318 : (Jvm.Cond.fieldLink "java/lang/AbstractStringBuilder" (18 : Nat) "java/lang/String" "COMPACT_STRINGS" "Z") ∈ lw_all := lw_g (lw_at lw_m1 156 rfl) rfl
theorem q320 : (Jvm.Cond.methodLink "java/lang/AbstractStringBuilder" (26 : Nat) ({ cls := "java/lang/StringUTF16", name := "newBytesFor", desc := "(I)[B" } : Jvm.MethodName)) ∈ lw_all := lw_g (lw_at lw_m1 158 rfl) rfl
theorem q327 : (Jvm.Cond.fieldLink "java/lang/AbstractStringBuilder" (15 : Nat) "java/lang/AbstractStringBuilder" "value" "[B") ∈ lw_all := lw_g (lw_at lw_m1 165 rfl) rfl
theorem q328 : (Jvm.Cond.fieldLink "java/lang/AbstractStringBuilder" (22 : Nat) "java/lang/AbstractStringBuilder" "coder" "B") ∈ lw_all := lw_g (lw_at lw_m1 166 rfl) rfl
theorem q329 : (Jvm.Cond.fieldLink "java/lang/AbstractStringBuilder" (73 : Nat) "java/lang/AbstractStringBuilder" "maybeLatin1" "Z") ∈ lw_all := lw_g (lw_at lw_m1 167 rfl) rfl
theorem q331 : (Jvm.Cond.fieldLink "java/lang/AbstractStringBuilder" (79 : Nat) "java/lang/AbstractStringBuilder" "count" "I") ∈ lw_all := lw_g (lw_at lw_m1 169 rfl) rfl
theorem q333 : (Jvm.Cond.soleField "java/lang/AbstractStringBuilder" "value") ∈ lw_all := lw_g (lw_at lw_m1 171 rfl) rfl
theorem q335 : (Jvm.Cond.soleField "java/lang/AbstractStringBuilder" "coder") ∈ lw_all := lw_g (lw_at lw_m1 173 rfl) rfl
theorem q337 : (Jvm.Cond.soleField "java/lang/AbstractStringBuilder" "maybeLatin1") ∈ lw_all := lw_g (lw_at lw_m1 175 rfl) rfl
theorem q339 : (Jvm.Cond.soleField "java/lang/AbstractStringBuilder" "count") ∈ lw_all := lw_g (lw_at lw_m1 177 rfl) rfl
theorem q349 : (Jvm.Cond.instanceMethod ({ cls := "java/lang/AbstractStringBuilder", name := "append", desc := "(Ljava/lang/String;)Ljava/lang/AbstractStringBuilder;" } : Jvm.MethodName)) ∈ lw_all := lw_g (lw_at lw_m1 187 rfl) rfl
theorem q350 : (Jvm.Cond.code ({ cls := "java/lang/AbstractStringBuilder", name := "append", desc := "(Ljava/lang/String;)Ljava/lang/AbstractStringBuilder;" } : Jvm.MethodName) prog_14_method_22_code (3 : Nat) (Option.some (Jvm.ClassFile.FieldType.object "java/lang/AbstractStringBuilder"))) ∈ lw_all := lw_g (lw_at lw_m1 188 rfl) rfl
theorem q351 : (Jvm.Cond.methodLink "java/lang/AbstractStringBuilder" (204 : Nat) ({ cls := "java/lang/AbstractStringBuilder", name := "appendNull", desc := "()Ljava/lang/AbstractStringBuilder;" } : Jvm.MethodName)) ∈ lw_all := lw_g (lw_at lw_m1 189 rfl) rfl
theorem q352 : (Jvm.Cond.privateMethod ({ cls := "java/lang/AbstractStringBuilder", name := "appendNull", desc := "()Ljava/lang/AbstractStringBuilder;" } : Jvm.MethodName)) ∈ lw_tbl := lw_at lw_m1 190 rfl
theorem q353 : (Jvm.Cond.instanceMethod ({ cls := "java/lang/AbstractStringBuilder", name := "appendNull", desc := "()Ljava/lang/AbstractStringBuilder;" } : Jvm.MethodName)) ∈ lw_all := lw_g (lw_at lw_m1 191 rfl) rfl
theorem q354 : (Jvm.Cond.code ({ cls := "java/lang/AbstractStringBuilder", name := "appendNull", desc := "()Ljava/lang/AbstractStringBuilder;" } : Jvm.MethodName) prog_14_method_26_code (3 : Nat) (Option.some (Jvm.ClassFile.FieldType.object "java/lang/AbstractStringBuilder"))) ∈ lw_all := lw_g (lw_at lw_m1 192 rfl) rfl
theorem q355 : (Jvm.Cond.methodLink "java/lang/AbstractStringBuilder" (100 : Nat) ({ cls := "java/lang/AbstractStringBuilder", name := "ensureCapacityInternal", desc := "(I)V" } : Jvm.MethodName)) ∈ lw_all := lw_g (lw_at lw_m1 193 rfl) rfl
theorem q356 : (Jvm.Cond.privateMethod ({ cls := "java/lang/AbstractStringBuilder", name := "ensureCapacityInternal", desc := "(I)V" } : Jvm.MethodName)) ∈ lw_tbl := lw_at lw_m1 194 rfl
theorem q357 : (Jvm.Cond.instanceMethod ({ cls := "java/lang/AbstractStringBuilder", name := "ensureCapacityInternal", desc := "(I)V" } : Jvm.MethodName)) ∈ lw_all := lw_g (lw_at lw_m1 195 rfl) rfl
theorem q358 : (Jvm.Cond.code ({ cls := "java/lang/AbstractStringBuilder", name := "ensureCapacityInternal", desc := "(I)V" } : Jvm.MethodName) prog_14_method_9_code (3 : Nat) (Option.none : Option Jvm.ClassFile.FieldType)) ∈ lw_all := lw_g (lw_at lw_m1 196 rfl) rfl
theorem q359 : (Jvm.Cond.methodLink "java/lang/AbstractStringBuilder" (104 : Nat) ({ cls := "java/lang/AbstractStringBuilder", name := "newCapacity", desc := "(I)I" } : Jvm.MethodName)) ∈ lw_all := lw_g (lw_at lw_m1 197 rfl) rfl
theorem q360 : (Jvm.Cond.privateMethod ({ cls := "java/lang/AbstractStringBuilder", name := "newCapacity", desc := "(I)I" } : Jvm.MethodName)) ∈ lw_tbl := lw_at lw_m1 198 rfl
theorem q361 : (Jvm.Cond.instanceMethod ({ cls := "java/lang/AbstractStringBuilder", name := "newCapacity", desc := "(I)I" } : Jvm.MethodName)) ∈ lw_all := lw_g (lw_at lw_m1 199 rfl) rfl
theorem q362 : (Jvm.Cond.code ({ cls := "java/lang/AbstractStringBuilder", name := "newCapacity", desc := "(I)I" } : Jvm.MethodName) prog_14_method_10_code (6 : Nat) (Option.some Jvm.ClassFile.FieldType.int)) ∈ lw_all := lw_g (lw_at lw_m1 200 rfl) rfl
theorem q363 : (Jvm.Cond.methodLink "java/lang/AbstractStringBuilder" (114 : Nat) ({ cls := "jdk/internal/util/ArraysSupport", name := "newLength", desc := "(III)I" } : Jvm.MethodName)) ∈ lw_all := lw_g (lw_at lw_m1 201 rfl) rfl
theorem q373 : (Jvm.Cond.constant "java/lang/AbstractStringBuilder" (39 : Nat) (2147483647 : Int32)) ∈ lw_all := lw_g (lw_at lw_m1 211 rfl) rfl
theorem q374 : (Jvm.Cond.methodLink "java/lang/AbstractStringBuilder" (108 : Nat) ({ cls := "java/util/Arrays", name := "copyOf", desc := "([BI)[B" } : Jvm.MethodName)) ∈ lw_all := lw_g (lw_at lw_m1 212 rfl) rfl
theorem q390 : (Jvm.Cond.methodLink "java/lang/AbstractStringBuilder" (83 : Nat) ({ cls := "java/lang/AbstractStringBuilder", name := "isLatin1", desc := "()Z" } : Jvm.MethodName)) ∈ lw_all := lw_g (lw_at lw_m1 228 rfl) rfl
theorem q391 : (Jvm.Cond.instanceMethod ({ cls := "java/lang/AbstractStringBuilder", name := "isLatin1", desc := "()Z" } : Jvm.MethodName)) ∈ lw_all := lw_g (lw_at lw_m1 229 rfl) rfl
theorem q392 : (Jvm.Cond.sameMethod "java/lang/AbstractStringBuilder" "java/lang/AbstractStringBuilder" "isLatin1" "()Z") ∈ lw_all := lw_g (lw_at lw_m1 230 rfl) rfl
theorem q394 : (Jvm.Cond.code ({ cls := "java/lang/AbstractStringBuilder", name := "isLatin1", desc := "()Z" } : Jvm.MethodName) prog_14_method_68_code (1 : Nat) (Option.some Jvm.ClassFile.FieldType.boolean)) ∈ lw_all := lw_g (lw_at lw_m1 232 rfl) rfl
theorem q395 : (Jvm.Cond.methodLink "java/lang/AbstractStringBuilder" (226 : Nat) ({ cls := "java/lang/StringUTF16", name := "putCharsAt", desc := "([BICCCC)I" } : Jvm.MethodName)) ∈ lw_all := lw_g (lw_at lw_m1 233 rfl) rfl
theorem q421 : (Jvm.Cond.methodLink "java/lang/AbstractStringBuilder" (32 : Nat) ({ cls := "java/lang/String", name := "length", desc := "()I" } : Jvm.MethodName)) ∈ lw_all := lw_g (lw_at lw_m2 19 rfl) rfl
theorem q430 : (Jvm.Cond.methodLink "java/lang/AbstractStringBuilder" (208 : Nat) ({ cls := "java/lang/AbstractStringBuilder", name := "putStringAt", desc := "(ILjava/lang/String;)V" } : Jvm.MethodName)) ∈ lw_all := lw_g (lw_at lw_m2 28 rfl) rfl
theorem q431 : (Jvm.Cond.privateMethod ({ cls := "java/lang/AbstractStringBuilder", name := "putStringAt", desc := "(ILjava/lang/String;)V" } : Jvm.MethodName)) ∈ lw_tbl := lw_at lw_m2 29 rfl
theorem q432 : (Jvm.Cond.instanceMethod ({ cls := "java/lang/AbstractStringBuilder", name := "putStringAt", desc := "(ILjava/lang/String;)V" } : Jvm.MethodName)) ∈ lw_all := lw_g (lw_at lw_m2 30 rfl) rfl
theorem q433 : (Jvm.Cond.code ({ cls := "java/lang/AbstractStringBuilder", name := "putStringAt", desc := "(ILjava/lang/String;)V" } : Jvm.MethodName) prog_14_method_73_code (3 : Nat) (Option.none : Option Jvm.ClassFile.FieldType)) ∈ lw_all := lw_g (lw_at lw_m2 31 rfl) rfl
theorem q434 : (Jvm.Cond.methodLink "java/lang/AbstractStringBuilder" (397 : Nat) ({ cls := "java/lang/AbstractStringBuilder", name := "inflateIfNeededFor", desc := "(Ljava/lang/String;)V" } : Jvm.MethodName)) ∈ lw_all := lw_g (lw_at lw_m2 32 rfl) rfl
theorem q435 : (Jvm.Cond.privateMethod ({ cls := "java/lang/AbstractStringBuilder", name := "inflateIfNeededFor", desc := "(Ljava/lang/String;)V" } : Jvm.MethodName)) ∈ lw_tbl := lw_at lw_m2 33 rfl
theorem q436 : (Jvm.Cond.instanceMethod ({ cls := "java/lang/AbstractStringBuilder", name := "inflateIfNeededFor", desc := "(Ljava/lang/String;)V" } : Jvm.MethodName)) ∈ lw_all := lw_g (lw_at lw_m2 34 rfl) rfl
theorem q437 : (Jvm.Cond.code ({ cls := "java/lang/AbstractStringBuilder", name := "inflateIfNeededFor", desc := "(Ljava/lang/String;)V" } : Jvm.MethodName) prog_14_method_71_code (2 : Nat) (Option.none : Option Jvm.ClassFile.FieldType)) ∈ lw_all := lw_g (lw_at lw_m2 35 rfl) rfl
theorem q438 : (Jvm.Cond.methodLink "java/lang/AbstractStringBuilder" (40 : Nat) ({ cls := "java/lang/String", name := "coder", desc := "()B" } : Jvm.MethodName)) ∈ lw_all := lw_g (lw_at lw_m2 36 rfl) rfl
theorem q439 : (Jvm.Cond.methodLink "java/lang/AbstractStringBuilder" (195 : Nat) ({ cls := "java/lang/AbstractStringBuilder", name := "inflate", desc := "()V" } : Jvm.MethodName)) ∈ lw_all := lw_g (lw_at lw_m2 37 rfl) rfl
theorem q440 : (Jvm.Cond.privateMethod ({ cls := "java/lang/AbstractStringBuilder", name := "inflate", desc := "()V" } : Jvm.MethodName)) ∈ lw_tbl := lw_at lw_m2 38 rfl
theorem q441 : (Jvm.Cond.instanceMethod ({ cls := "java/lang/AbstractStringBuilder", name := "inflate", desc := "()V" } : Jvm.MethodName)) ∈ lw_all := lw_g (lw_at lw_m2 39 rfl) rfl
theorem q442 : (Jvm.Cond.code ({ cls := "java/lang/AbstractStringBuilder", name := "inflate", desc := "()V" } : Jvm.MethodName) prog_14_method_11_code (2 : Nat) (Option.none : Option Jvm.ClassFile.FieldType)) ∈ lw_all := lw_g (lw_at lw_m2 40 rfl) rfl
theorem q443 : (Jvm.Cond.methodLink "java/lang/AbstractStringBuilder" (125 : Nat) ({ cls := "java/lang/StringLatin1", name := "inflate", desc := "([BI[BII)V" } : Jvm.MethodName)) ∈ lw_all := lw_g (lw_at lw_m2 41 rfl) rfl
theorem q458 : (Jvm.Cond.methodLink "java/lang/AbstractStringBuilder" (399 : Nat) ({ cls := "java/lang/String", name := "getBytes", desc := "([BIB)V" } : Jvm.MethodName)) ∈ lw_all := lw_g (lw_at lw_m2 56 rfl) rfl
theorem q469 : (Jvm.Cond.instanceMethod ({ cls := "java/lang/AbstractStringBuilder", name := "append", desc := "(I)Ljava/lang/AbstractStringBuilder;" } : Jvm.MethodName)) ∈ lw_all := lw_g (lw_at lw_m2 67 rfl) rfl
theorem q470 : (Jvm.Cond.code ({ cls := "java/lang/AbstractStringBuilder", name := "append", desc := "(I)Ljava/lang/AbstractStringBuilder;" } : Jvm.MethodName) prog_14_method_32_code (4 : Nat) (Option.some (Jvm.ClassFile.FieldType.object "java/lang/AbstractStringBuilder"))) ∈ lw_all := lw_g (lw_at lw_m2 68 rfl) rfl
theorem q471 : (Jvm.Cond.methodLink "java/lang/AbstractStringBuilder" (245 : Nat) ({ cls := "java/lang/Integer", name := "stringSize", desc := "(I)I" } : Jvm.MethodName)) ∈ lw_all := lw_g (lw_at lw_m2 69 rfl) rfl
theorem q474 : (Jvm.Cond.methodLink "java/lang/AbstractStringBuilder" (248 : Nat) ({ cls := "java/lang/Integer", name := "getChars", desc := "(II[B)I" } : Jvm.MethodName)) ∈ lw_all := lw_g (lw_at lw_m2 72 rfl) rfl
theorem q481 : (Jvm.Cond.methodLink "java/lang/AbstractStringBuilder" (251 : Nat) ({ cls := "java/lang/StringUTF16", name := "getChars", desc := "(III[B)I" } : Jvm.MethodName)) ∈ lw_all := lw_g (lw_at lw_m2 79 rfl) rfl
theorem q503 : (Jvm.Cond.instanceMethod ({ cls := "java/lang/AbstractStringBuilder", name := "getValue", desc := "()[B" } : Jvm.MethodName)) ∈ lw_all := lw_g (lw_at lw_m2 101 rfl) rfl
theorem q504 : (Jvm.Cond.sameMethod "java/lang/AbstractStringBuilder" "java/lang/AbstractStringBuilder" "getValue" "()[B") ∈ lw_all := lw_g (lw_at lw_m2 102 rfl) rfl
theorem q506 : (Jvm.Cond.code ({ cls := "java/lang/AbstractStringBuilder", name := "getValue", desc := "()[B" } : Jvm.MethodName) prog_14_method_64_code (1 : Nat) (Option.some (Jvm.ClassFile.FieldType.array Jvm.ClassFile.FieldType.byte))) ∈ lw_all := lw_g (lw_at lw_m2 104 rfl) rfl
theorem q508 : (Jvm.Cond.instanceMethod ({ cls := "java/lang/AbstractStringBuilder", name := "length", desc := "()I" } : Jvm.MethodName)) ∈ lw_all := lw_g (lw_at lw_m2 106 rfl) rfl
theorem q509 : (Jvm.Cond.sameMethod "java/lang/AbstractStringBuilder" "java/lang/AbstractStringBuilder" "length" "()I") ∈ lw_all := lw_g (lw_at lw_m2 107 rfl) rfl
theorem q514 : (Jvm.Cond.code ({ cls := "java/lang/AbstractStringBuilder", name := "length", desc := "()I" } : Jvm.MethodName) prog_14_method_6_code (1 : Nat) (Option.some Jvm.ClassFile.FieldType.int)) ∈ lw_all := lw_g (lw_at lw_m2 112 rfl) rfl
theorem q642 : (Jvm.Cond.instanceMethod ({ cls := "java/lang/AbstractStringBuilder", name := "append", desc := "(F)Ljava/lang/AbstractStringBuilder;" } : Jvm.MethodName)) ∈ lw_all := lw_g (lw_at lw_m3 0 rfl) rfl
theorem q643 : (Jvm.Cond.codeWith ({ cls := "java/lang/AbstractStringBuilder", name := "append", desc := "(F)Ljava/lang/AbstractStringBuilder;" } : Jvm.MethodName) prog_14_method_34_code (3 : Nat) (Option.some (Jvm.ClassFile.FieldType.object "java/lang/AbstractStringBuilder")) [((0 : Nat), (6 : Nat), (9 : Nat), (271 : Nat))]) ∈ lw_all := lw_g (lw_at lw_m3 1 rfl) rfl
theorem q644 : (Jvm.Cond.methodLink "java/lang/AbstractStringBuilder" (265 : Nat) ({ cls := "jdk/internal/math/FloatToDecimal", name := "appendTo", desc := "(FLjava/lang/Appendable;)Ljava/lang/Appendable;" } : Jvm.MethodName)) ∈ lw_all := lw_g (lw_at lw_m3 2 rfl) rfl
theorem q763 : (Jvm.Cond.instanceMethod ({ cls := "java/lang/AbstractStringBuilder", name := "append", desc := "([C)Ljava/lang/AbstractStringBuilder;" } : Jvm.MethodName)) ∈ lw_all := lw_g (lw_at lw_m3 121 rfl) rfl
theorem q764 : (Jvm.Cond.code ({ cls := "java/lang/AbstractStringBuilder", name := "append", desc := "([C)Ljava/lang/AbstractStringBuilder;" } : Jvm.MethodName) prog_14_method_28_code (3 : Nat) (Option.some (Jvm.ClassFile.FieldType.object "java/lang/AbstractStringBuilder"))) ∈ lw_all := lw_g (lw_at lw_m3 122 rfl) rfl
theorem q765 : (Jvm.Cond.methodLink "java/lang/AbstractStringBuilder" (239 : Nat) ({ cls := "java/lang/AbstractStringBuilder", name := "appendChars", desc := "([CII)V" } : Jvm.MethodName)) ∈ lw_all := lw_g (lw_at lw_m3 123 rfl) rfl
theorem q766 : (Jvm.Cond.privateMethod ({ cls := "java/lang/AbstractStringBuilder", name := "appendChars", desc := "([CII)V" } : Jvm.MethodName)) ∈ lw_tbl := lw_at lw_m3 124 rfl
theorem q767 : (Jvm.Cond.instanceMethod ({ cls := "java/lang/AbstractStringBuilder", name := "appendChars", desc := "([CII)V" } : Jvm.MethodName)) ∈ lw_all := lw_g (lw_at lw_m3 125 rfl) rfl
theorem q768 : (Jvm.Cond.code ({ cls := "java/lang/AbstractStringBuilder", name := "appendChars", desc := "([CII)V" } : Jvm.MethodName) prog_14_method_74_code (9 : Nat) (Option.none : Option Jvm.ClassFile.FieldType)) ∈ lw_all := lw_g (lw_at lw_m3 126 rfl) rfl
theorem q769 : (Jvm.Cond.methodLink "java/lang/AbstractStringBuilder" (191 : Nat) ({ cls := "java/lang/StringLatin1", name := "canEncode", desc := "(C)Z" } : Jvm.MethodName)) ∈ lw_all := lw_g (lw_at lw_m3 127 rfl) rfl
theorem q772 : (Jvm.Cond.methodLink "java/lang/AbstractStringBuilder" (386 : Nat) ({ cls := "java/lang/StringUTF16", name := "putCharsSB", desc := "([BI[CII)V" } : Jvm.MethodName)) ∈ lw_all := lw_g (lw_at lw_m3 130 rfl) rfl
theorem q800 : (Jvm.Cond.instanceMethod ({ cls := "java/lang/AbstractStringBuilder", name := "append", desc := "(C)Ljava/lang/AbstractStringBuilder;" } : Jvm.MethodName)) ∈ lw_all := lw_g (lw_at lw_m3 158 rfl) rfl
theorem q801 : (Jvm.Cond.code ({ cls := "java/lang/AbstractStringBuilder", name := "append", desc := "(C)Ljava/lang/AbstractStringBuilder;" } : Jvm.MethodName) prog_14_method_31_code (2 : Nat) (Option.some (Jvm.ClassFile.FieldType.object "java/lang/AbstractStringBuilder"))) ∈ lw_all := lw_g (lw_at lw_m3 159 rfl) rfl
theorem q802 : (Jvm.Cond.methodLink "java/lang/AbstractStringBuilder" (197 : Nat) ({ cls := "java/lang/StringUTF16", name := "putCharSB", desc := "([BII)V" } : Jvm.MethodName)) ∈ lw_all := lw_g (lw_at lw_m3 160 rfl) rfl
theorem q829 : (Jvm.Cond.instanceMethod ({ cls := "java/lang/AbstractStringBuilder", name := "append", desc := "(Ljava/lang/CharSequence;)Ljava/lang/AbstractStringBuilder;" } : Jvm.MethodName)) ∈ lw_all := lw_g (lw_at lw_m3 187 rfl) rfl
theorem q830 : (Jvm.Cond.code ({ cls := "java/lang/AbstractStringBuilder", name := "append", desc := "(Ljava/lang/CharSequence;)Ljava/lang/AbstractStringBuilder;" } : Jvm.MethodName) prog_14_method_25_code (2 : Nat) (Option.some (Jvm.ClassFile.FieldType.object "java/lang/AbstractStringBuilder"))) ∈ lw_all := lw_g (lw_at lw_m3 188 rfl) rfl
theorem q831 : (Jvm.Cond.classLink "java/lang/AbstractStringBuilder" (1 : Nat) "java/lang/String") ∈ lw_all := lw_g (lw_at lw_m3 189 rfl) rfl
theorem q832 : (Jvm.Cond.methodLink "java/lang/AbstractStringBuilder" (43 : Nat) ({ cls := "java/lang/AbstractStringBuilder", name := "append", desc := "(Ljava/lang/String;)Ljava/lang/AbstractStringBuilder;" } : Jvm.MethodName)) ∈ lw_all := lw_g (lw_at lw_m3 190 rfl) rfl
theorem q836 : (Jvm.Cond.classLink "java/lang/AbstractStringBuilder" (10 : Nat) "java/lang/AbstractStringBuilder") ∈ lw_all := lw_g (lw_at lw_m3 194 rfl) rfl
theorem q837 : (Jvm.Cond.methodLink "java/lang/AbstractStringBuilder" (212 : Nat) ({ cls := "java/lang/AbstractStringBuilder", name := "append", desc := "(Ljava/lang/AbstractStringBuilder;)Ljava/lang/AbstractStringBuilder;" } : Jvm.MethodName)) ∈ lw_all := lw_g (lw_at lw_m3 195 rfl) rfl
theorem q838 : (Jvm.Cond.instanceMethod ({ cls := "java/lang/AbstractStringBuilder", name := "append", desc := "(Ljava/lang/AbstractStringBuilder;)Ljava/lang/AbstractStringBuilder;" } : Jvm.MethodName)) ∈ lw_all := lw_g (lw_at lw_m3 196 rfl) rfl
theorem q839 : (Jvm.Cond.sameMethod "java/lang/AbstractStringBuilder" "java/lang/AbstractStringBuilder" "append" "(Ljava/lang/AbstractStringBuilder;)Ljava/lang/AbstractStringBuilder;") ∈ lw_all := lw_g (lw_at lw_m3 197 rfl) rfl
theorem q841 : (Jvm.Cond.code ({ cls := "java/lang/AbstractStringBuilder", name := "append", desc := "(Ljava/lang/AbstractStringBuilder;)Ljava/lang/AbstractStringBuilder;" } : Jvm.MethodName) prog_14_method_24_code (3 : Nat) (Option.some (Jvm.ClassFile.FieldType.object "java/lang/AbstractStringBuilder"))) ∈ lw_all := lw_g (lw_at lw_m3 199 rfl) rfl
theorem q842 : (Jvm.Cond.methodLink "java/lang/AbstractStringBuilder" (160 : Nat) ({ cls := "java/lang/AbstractStringBuilder", name := "length", desc := "()I" } : Jvm.MethodName)) ∈ lw_all := lw_g (lw_at lw_m3 200 rfl) rfl
theorem q843 : (Jvm.Cond.methodLink "java/lang/AbstractStringBuilder" (215 : Nat) ({ cls := "java/lang/AbstractStringBuilder", name := "inflateIfNeededFor", desc := "(Ljava/lang/AbstractStringBuilder;)V" } : Jvm.MethodName)) ∈ lw_all := lw_g (lw_at lw_m3 201 rfl) rfl
theorem q844 : (Jvm.Cond.privateMethod ({ cls := "java/lang/AbstractStringBuilder", name := "inflateIfNeededFor", desc := "(Ljava/lang/AbstractStringBuilder;)V" } : Jvm.MethodName)) ∈ lw_tbl := lw_at lw_m3 202 rfl
theorem q845 : (Jvm.Cond.instanceMethod ({ cls := "java/lang/AbstractStringBuilder", name := "inflateIfNeededFor", desc := "(Ljava/lang/AbstractStringBuilder;)V" } : Jvm.MethodName)) ∈ lw_all := lw_g (lw_at lw_m3 203 rfl) rfl
theorem q846 : (Jvm.Cond.code ({ cls := "java/lang/AbstractStringBuilder", name := "inflateIfNeededFor", desc := "(Ljava/lang/AbstractStringBuilder;)V" } : Jvm.MethodName) prog_14_method_72_code (2 : Nat) (Option.none : Option Jvm.ClassFile.FieldType)) ∈ lw_all := lw_g (lw_at lw_m3 204 rfl) rfl
theorem q847 : (Jvm.Cond.methodLink "java/lang/AbstractStringBuilder" (70 : Nat) ({ cls := "java/lang/AbstractStringBuilder", name := "getCoder", desc := "()B" } : Jvm.MethodName)) ∈ lw_all := lw_g (lw_at lw_m3 205 rfl) rfl
theorem q848 : (Jvm.Cond.instanceMethod ({ cls := "java/lang/AbstractStringBuilder", name := "getCoder", desc := "()B" } : Jvm.MethodName)) ∈ lw_all := lw_g (lw_at lw_m3 206 rfl) rfl
theorem q849 : (Jvm.Cond.sameMethod "java/lang/AbstractStringBuilder" "java/lang/AbstractStringBuilder" "getCoder" "()B") ∈ lw_all := lw_g (lw_at lw_m3 207 rfl) rfl
theorem q851 : (Jvm.Cond.code ({ cls := "java/lang/AbstractStringBuilder", name := "getCoder", desc := "()B" } : Jvm.MethodName) prog_14_method_67_code (1 : Nat) (Option.some Jvm.ClassFile.FieldType.byte)) ∈ lw_all := lw_g (lw_at lw_m3 209 rfl) rfl
theorem q852 : (Jvm.Cond.methodLink "java/lang/AbstractStringBuilder" (219 : Nat) ({ cls := "java/lang/AbstractStringBuilder", name := "getBytes", desc := "([BIB)V" } : Jvm.MethodName)) ∈ lw_all := lw_g (lw_at lw_m3 210 rfl) rfl
theorem q853 : (Jvm.Cond.instanceMethod ({ cls := "java/lang/AbstractStringBuilder", name := "getBytes", desc := "([BIB)V" } : Jvm.MethodName)) ∈ lw_all := lw_g (lw_at lw_m3 211 rfl) rfl
theorem q854 : (Jvm.Cond.sameMethod "java/lang/AbstractStringBuilder" "java/lang/AbstractStringBuilder" "getBytes" "([BIB)V") ∈ lw_all := lw_g (lw_at lw_m3 212 rfl) rfl
theorem q856 : (Jvm.Cond.code ({ cls := "java/lang/AbstractStringBuilder", name := "getBytes", desc := "([BIB)V" } : Jvm.MethodName) prog_14_method_65_code (4 : Nat) (Option.none : Option Jvm.ClassFile.FieldType)) ∈ lw_all := lw_g (lw_at lw_m3 214 rfl) rfl
theorem q857 : (Jvm.Cond.methodLink "java/lang/AbstractStringBuilder" (309 : Nat) ({ cls := "java/lang/System", name := "arraycopy", desc := "(Ljava/lang/Object;ILjava/lang/Object;II)V" } : Jvm.MethodName)) ∈ lw_all := lw_g (lw_at lw_m3 215 rfl) rfl
theorem q858 : (Jvm.Cond.interfaceEntry "java/lang/AbstractStringBuilder" (47 : Nat)) ∈ lw_tbl := lw_at lw_m3 216 rfl
theorem q859 : (Jvm.Cond.methodLink "java/lang/AbstractStringBuilder" (47 : Nat) ({ cls := "java/lang/CharSequence", name := "length", desc := "()I" } : Jvm.MethodName)) ∈ lw_all := lw_g (lw_at lw_m3 217 rfl) rfl
theorem q870 : (Jvm.Cond.methodLink "java/lang/AbstractStringBuilder" (223 : Nat) ({ cls := "java/lang/AbstractStringBuilder", name := "append", desc := "(Ljava/lang/CharSequence;II)Ljava/lang/AbstractStringBuilder;" } : Jvm.MethodName)) ∈ lw_all := lw_g (lw_at lw_m3 228 rfl) rfl
theorem q871 : (Jvm.Cond.instanceMethod ({ cls := "java/lang/AbstractStringBuilder", name := "append", desc := "(Ljava/lang/CharSequence;II)Ljava/lang/AbstractStringBuilder;" } : Jvm.MethodName)) ∈ lw_all := lw_g (lw_at lw_m3 229 rfl) rfl
theorem q872 : (Jvm.Cond.sameMethod "java/lang/AbstractStringBuilder" "java/lang/AbstractStringBuilder" "append" "(Ljava/lang/CharSequence;II)Ljava/lang/AbstractStringBuilder;") ∈ lw_all := lw_g (lw_at lw_m3 230 rfl) rfl
theorem q881 : (Jvm.Cond.code ({ cls := "java/lang/AbstractStringBuilder", name := "append", desc := "(Ljava/lang/CharSequence;II)Ljava/lang/AbstractStringBuilder;" } : Jvm.MethodName) prog_14_method_27_code (5 : Nat) (Option.some (Jvm.ClassFile.FieldType.object "java/lang/AbstractStringBuilder"))) ∈ lw_all := lw_g (lw_at lw_m3 239 rfl) rfl
theorem q882 : (Jvm.Cond.stringRef "java/lang/AbstractStringBuilder" (230 : Nat) "null") ∈ lw_tbl := lw_at lw_m4 0 rfl
theorem q883 : (Jvm.Cond.fieldLink "java/lang/AbstractStringBuilder" (183 : Nat) "jdk/internal/util/Preconditions" "IOOBE_FORMATTER" "Ljava/util/function/BiFunction;") ∈ lw_all := lw_g (lw_at lw_m4 1 rfl) rfl
theorem q885 : (Jvm.Cond.methodLink "java/lang/AbstractStringBuilder" (161 : Nat) ({ cls := "jdk/internal/util/Preconditions", name := "checkFromToIndex", desc := "(IIILjava/util/function/BiFunction;)I" } : Jvm.MethodName)) ∈ lw_all := lw_g (lw_at lw_m4 3 rfl) rfl
theorem q886 : (Jvm.Cond.methodLink "java/lang/AbstractStringBuilder" (232 : Nat) ({ cls := "java/lang/AbstractStringBuilder", name := "appendChars", desc := "(Ljava/lang/String;II)V" } : Jvm.MethodName)) ∈ lw_all := lw_g (lw_at lw_m4 4 rfl) rfl
theorem q887 : (Jvm.Cond.privateMethod ({ cls := "java/lang/AbstractStringBuilder", name := "appendChars", desc := "(Ljava/lang/String;II)V" } : Jvm.MethodName)) ∈ lw_tbl := lw_at lw_m4 5 rfl
theorem q888 : (Jvm.Cond.instanceMethod ({ cls := "java/lang/AbstractStringBuilder", name := "appendChars", desc := "(Ljava/lang/String;II)V" } : Jvm.MethodName)) ∈ lw_all := lw_g (lw_at lw_m4 6 rfl) rfl
theorem q889 : (Jvm.Cond.code ({ cls := "java/lang/AbstractStringBuilder", name := "appendChars", desc := "(Ljava/lang/String;II)V" } : Jvm.MethodName) prog_14_method_75_code (8 : Nat) (Option.none : Option Jvm.ClassFile.FieldType)) ∈ lw_all := lw_g (lw_at lw_m4 7 rfl) rfl
theorem q890 : (Jvm.Cond.methodLink "java/lang/AbstractStringBuilder" (400 : Nat) ({ cls := "java/lang/String", name := "isLatin1", desc := "()Z" } : Jvm.MethodName)) ∈ lw_all := lw_g (lw_at lw_m4 8 rfl) rfl
theorem q894 : (Jvm.Cond.methodLink "java/lang/AbstractStringBuilder" (401 : Nat) ({ cls := "java/lang/String", name := "value", desc := "()[B" } : Jvm.MethodName)) ∈ lw_all := lw_g (lw_at lw_m4 12 rfl) rfl
theorem q898 : (Jvm.Cond.methodLink "java/lang/AbstractStringBuilder" (404 : Nat) ({ cls := "java/lang/String", name := "charAt", desc := "(I)C" } : Jvm.MethodName)) ∈ lw_all := lw_g (lw_at lw_m4 16 rfl) rfl
theorem q910 : (Jvm.Cond.methodLink "java/lang/AbstractStringBuilder" (394 : Nat) ({ cls := "java/lang/StringUTF16", name := "putCharsSB", desc := "([BILjava/lang/CharSequence;II)V" } : Jvm.MethodName)) ∈ lw_all := lw_g (lw_at lw_m4 28 rfl) rfl
theorem q926 : (Jvm.Cond.instanceMethod ({ cls := "java/lang/AbstractStringBuilder", name := "charAt", desc := "(I)C" } : Jvm.MethodName)) ∈ lw_all := lw_g (lw_at lw_m4 44 rfl) rfl
theorem q927 : (Jvm.Cond.code ({ cls := "java/lang/AbstractStringBuilder", name := "charAt", desc := "(I)C" } : Jvm.MethodName) prog_14_method_14_code (5 : Nat) (Option.some Jvm.ClassFile.FieldType.char)) ∈ lw_all := lw_g (lw_at lw_m4 45 rfl) rfl
theorem q928 : (Jvm.Cond.methodLink "java/lang/AbstractStringBuilder" (138 : Nat) ({ cls := "java/lang/Math", name := "min", desc := "(II)I" } : Jvm.MethodName)) ∈ lw_all := lw_g (lw_at lw_m4 46 rfl) rfl
theorem q929 : (Jvm.Cond.methodLink "java/lang/AbstractStringBuilder" (144 : Nat) ({ cls := "java/lang/String", name := "checkIndex", desc := "(II)V" } : Jvm.MethodName)) ∈ lw_all := lw_g (lw_at lw_m4 47 rfl) rfl
theorem q930 : (Jvm.Cond.methodLink "java/lang/AbstractStringBuilder" (148 : Nat) ({ cls := "java/lang/StringUTF16", name := "getChar", desc := "([BI)C" } : Jvm.MethodName)) ∈ lw_all := lw_g (lw_at lw_m4 48 rfl) rfl
theorem q931 : (Jvm.Cond.methodLink "java/lang/AbstractStringBuilder" (236 : Nat) ({ cls := "java/lang/AbstractStringBuilder", name := "appendChars", desc := "(Ljava/lang/CharSequence;II)V" } : Jvm.MethodName)) ∈ lw_all := lw_g (lw_at lw_m4 49 rfl) rfl
theorem q932 : (Jvm.Cond.privateMethod ({ cls := "java/lang/AbstractStringBuilder", name := "appendChars", desc := "(Ljava/lang/CharSequence;II)V" } : Jvm.MethodName)) ∈ lw_tbl := lw_at lw_m4 50 rfl
theorem q933 : (Jvm.Cond.instanceMethod ({ cls := "java/lang/AbstractStringBuilder", name := "appendChars", desc := "(Ljava/lang/CharSequence;II)V" } : Jvm.MethodName)) ∈ lw_all := lw_g (lw_at lw_m4 51 rfl) rfl
theorem q934 : (Jvm.Cond.code ({ cls := "java/lang/AbstractStringBuilder", name := "appendChars", desc := "(Ljava/lang/CharSequence;II)V" } : Jvm.MethodName) prog_14_method_76_code (8 : Nat) (Option.none : Option Jvm.ClassFile.FieldType)) ∈ lw_all := lw_g (lw_at lw_m4 52 rfl) rfl
theorem q935 : (Jvm.Cond.interfaceEntry "java/lang/AbstractStringBuilder" (390 : Nat)) ∈ lw_tbl := lw_at lw_m4 53 rfl
theorem q936 : (Jvm.Cond.methodLink "java/lang/AbstractStringBuilder" (390 : Nat) ({ cls := "java/lang/CharSequence", name := "charAt", desc := "(I)C" } : Jvm.MethodName)) ∈ lw_all := lw_g (lw_at lw_m4 54 rfl) rfl
theorem q941 : (Jvm.Cond.classLink "java/lang/AbstractStringBuilder" (273 : Nat) "java/lang/AssertionError") ∈ lw_all := lw_g (lw_at lw_m4 59 rfl) rfl
theorem q952 : (Jvm.Cond.methodLink "java/lang/AbstractStringBuilder" (275 : Nat) ({ cls := "java/lang/AssertionError", name := "<init>", desc := "(Ljava/lang/Object;)V" } : Jvm.MethodName)) ∈ lw_all := lw_g (lw_at lw_m4 70 rfl) rfl
theorem q1984 : (Jvm.Cond.instanceMethod ({ cls := "java/lang/AbstractStringBuilder", name := "compareTo", desc := "(Ljava/lang/AbstractStringBuilder;)I" } : Jvm.MethodName)) ∈ lw_all := lw_g (lw_at lw_m8 142 rfl) rfl
theorem q1985 : (Jvm.Cond.code ({ cls := "java/lang/AbstractStringBuilder", name := "compareTo", desc := "(Ljava/lang/AbstractStringBuilder;)I" } : Jvm.MethodName) prog_14_method_5_code (6 : Nat) (Option.some Jvm.ClassFile.FieldType.int)) ∈ lw_all := lw_g (lw_at lw_m8 143 rfl) rfl
theorem q1986 : (Jvm.Cond.methodLink "java/lang/AbstractStringBuilder" (87 : Nat) ({ cls := "java/lang/StringLatin1", name := "compareTo", desc := "([B[BII)I" } : Jvm.MethodName)) ∈ lw_all := lw_g (lw_at lw_m8 144 rfl) rfl
theorem q1987 : (Jvm.Cond.methodLink "java/lang/AbstractStringBuilder" (93 : Nat) ({ cls := "java/lang/StringUTF16", name := "compareTo", desc := "([B[BII)I" } : Jvm.MethodName)) ∈ lw_all := lw_g (lw_at lw_m8 145 rfl) rfl
theorem q1996 : (Jvm.Cond.methodLink "java/lang/AbstractStringBuilder" (94 : Nat) ({ cls := "java/lang/StringLatin1", name := "compareToUTF16", desc := "([B[BII)I" } : Jvm.MethodName)) ∈ lw_all := lw_g (lw_at lw_m8 154 rfl) rfl
theorem q2000 : (Jvm.Cond.methodLink "java/lang/AbstractStringBuilder" (97 : Nat) ({ cls := "java/lang/StringUTF16", name := "compareToLatin1", desc := "([B[BII)I" } : Jvm.MethodName)) ∈ lw_all := lw_g (lw_at lw_m8 158 rfl) rfl
theorem q2964 : (Jvm.Cond.instanceMethod ({ cls := "java/lang/AbstractStringBuilder", name := "setLength", desc := "(I)V" } : Jvm.MethodName)) ∈ lw_all := lw_g (lw_at lw_m12 162 rfl) rfl
theorem q2965 : (Jvm.Cond.code ({ cls := "java/lang/AbstractStringBuilder", name := "setLength", desc := "(I)V" } : Jvm.MethodName) prog_14_method_13_code (2 : Nat) (Option.none : Option Jvm.ClassFile.FieldType)) ∈ lw_all := lw_g (lw_at lw_m12 163 rfl) rfl
theorem q2966 : (Jvm.Cond.classLink "java/lang/AbstractStringBuilder" (129 : Nat) "java/lang/StringIndexOutOfBoundsException") ∈ lw_all := lw_g (lw_at lw_m12 164 rfl) rfl
theorem q2968 : (Jvm.Cond.methodLink "java/lang/AbstractStringBuilder" (131 : Nat) ({ cls := "java/lang/StringIndexOutOfBoundsException", name := "<init>", desc := "(I)V" } : Jvm.MethodName)) ∈ lw_all := lw_g (lw_at lw_m12 166 rfl) rfl
theorem q2988 : (Jvm.Cond.methodLink "java/lang/AbstractStringBuilder" (133 : Nat) ({ cls := "java/lang/StringLatin1", name := "fillNull", desc := "([BII)V" } : Jvm.MethodName)) ∈ lw_all := lw_g (lw_at lw_m12 186 rfl) rfl
theorem q3023 : (Jvm.Cond.methodLink "java/lang/AbstractStringBuilder" (137 : Nat) ({ cls := "java/lang/StringUTF16", name := "fillNull", desc := "([BII)V" } : Jvm.MethodName)) ∈ lw_all := lw_g (lw_at lw_m12 221 rfl) rfl
theorem q4568 : (Jvm.Cond.sameMethod "java/lang/AbstractStringBuilder" "java/lang/AbstractStringBuilder" "append" "(Ljava/lang/String;)Ljava/lang/AbstractStringBuilder;") ∈ lw_all := lw_g (lw_at lw_m19 86 rfl) rfl
theorem q4569 : (Jvm.Cond.sameMethod "java/lang/AbstractStringBuilder" "java/lang/AbstractStringBuilder" "appendNull" "()Ljava/lang/AbstractStringBuilder;") ∈ lw_all := lw_g (lw_at lw_m19 87 rfl) rfl
theorem q4570 : (Jvm.Cond.sameMethod "java/lang/AbstractStringBuilder" "java/lang/AbstractStringBuilder" "ensureCapacityInternal" "(I)V") ∈ lw_all := lw_g (lw_at lw_m19 88 rfl) rfl
theorem q4571 : (Jvm.Cond.sameMethod "java/lang/AbstractStringBuilder" "java/lang/AbstractStringBuilder" "newCapacity" "(I)I") ∈ lw_all := lw_g (lw_at lw_m19 89 rfl) rfl
theorem q4572 : (Jvm.Cond.sameMethod "java/lang/AbstractStringBuilder" "java/lang/AbstractStringBuilder" "putStringAt" "(ILjava/lang/String;)V") ∈ lw_all := lw_g (lw_at lw_m19 90 rfl) rfl
theorem q4573 : (Jvm.Cond.sameMethod "java/lang/AbstractStringBuilder" "java/lang/AbstractStringBuilder" "inflateIfNeededFor" "(Ljava/lang/String;)V") ∈ lw_all := lw_g (lw_at lw_m19 91 rfl) rfl
theorem q4574 : (Jvm.Cond.sameMethod "java/lang/AbstractStringBuilder" "java/lang/AbstractStringBuilder" "inflate" "()V") ∈ lw_all := lw_g (lw_at lw_m19 92 rfl) rfl
theorem q4575 : (Jvm.Cond.sameMethod "java/lang/AbstractStringBuilder" "java/lang/AbstractStringBuilder" "append" "(I)Ljava/lang/AbstractStringBuilder;") ∈ lw_all := lw_g (lw_at lw_m19 93 rfl) rfl
theorem q4576 : (Jvm.Cond.sameMethod "java/lang/AbstractStringBuilder" "java/lang/AbstractStringBuilder" "append" "(F)Ljava/lang/AbstractStringBuilder;") ∈ lw_all := lw_g (lw_at lw_m19 94 rfl) rfl
theorem q4577 : (Jvm.Cond.sameMethod "java/lang/AbstractStringBuilder" "java/lang/AbstractStringBuilder" "append" "([C)Ljava/lang/AbstractStringBuilder;") ∈ lw_all := lw_g (lw_at lw_m19 95 rfl) rfl
theorem q4578 : (Jvm.Cond.sameMethod "java/lang/AbstractStringBuilder" "java/lang/AbstractStringBuilder" "appendChars" "([CII)V") ∈ lw_all := lw_g (lw_at lw_m19 96 rfl) rfl
theorem q4579 : (Jvm.Cond.sameMethod "java/lang/AbstractStringBuilder" "java/lang/AbstractStringBuilder" "append" "(C)Ljava/lang/AbstractStringBuilder;") ∈ lw_all := lw_g (lw_at lw_m19 97 rfl) rfl
theorem q4580 : (Jvm.Cond.sameMethod "java/lang/AbstractStringBuilder" "java/lang/AbstractStringBuilder" "append" "(Ljava/lang/CharSequence;)Ljava/lang/AbstractStringBuilder;") ∈ lw_all := lw_g (lw_at lw_m19 98 rfl) rfl
theorem q4582 : (Jvm.Cond.sameMethod "java/lang/AbstractStringBuilder" "java/lang/AbstractStringBuilder" "inflateIfNeededFor" "(Ljava/lang/AbstractStringBuilder;)V") ∈ lw_all := lw_g (lw_at lw_m19 100 rfl) rfl
theorem q4583 : (Jvm.Cond.sameMethod "java/lang/AbstractStringBuilder" "java/lang/AbstractStringBuilder" "appendChars" "(Ljava/lang/String;II)V") ∈ lw_all := lw_g (lw_at lw_m19 101 rfl) rfl
theorem q4584 : (Jvm.Cond.sameMethod "java/lang/AbstractStringBuilder" "java/lang/AbstractStringBuilder" "charAt" "(I)C") ∈ lw_all := lw_g (lw_at lw_m19 102 rfl) rfl
theorem q4585 : (Jvm.Cond.sameMethod "java/lang/AbstractStringBuilder" "java/lang/AbstractStringBuilder" "appendChars" "(Ljava/lang/CharSequence;II)V") ∈ lw_all := lw_g (lw_at lw_m19 103 rfl) rfl
theorem q4586 : (Jvm.Cond.sameMethod "java/lang/AbstractStringBuilder" "java/lang/AbstractStringBuilder" "compareTo" "(Ljava/lang/AbstractStringBuilder;)I") ∈ lw_all := lw_g (lw_at lw_m19 104 rfl) rfl
theorem q4587 : (Jvm.Cond.sameMethod "java/lang/AbstractStringBuilder" "java/lang/AbstractStringBuilder" "setLength" "(I)V") ∈ lw_all := lw_g (lw_at lw_m19 105 rfl) rfl
theorem q173 : (Jvm.Cond.initialized "java/lang/StringBuilder") ∈ lw_all := lw_g (lw_at lw_m1 11 rfl) rfl
theorem q310 : (Jvm.Cond.instantiable "java/lang/StringBuilder" (4 : Nat)) ∈ lw_all := lw_g (lw_at lw_m1 148 rfl) rfl
theorem q312 : (Jvm.Cond.instanceMethod ({ cls := "java/lang/StringBuilder", name := "<init>", desc := "()V" } : Jvm.MethodName)) ∈ lw_all := lw_g (lw_at lw_m1 150 rfl) rfl
theorem q313 : (Jvm.Cond.code ({ cls := "java/lang/StringBuilder", name := "<init>", desc := "()V" } : Jvm.MethodName) prog_39_method_1_code (1 : Nat) (Option.none : Option Jvm.ClassFile.FieldType)) ∈ lw_all := lw_g (lw_at lw_m1 151 rfl) rfl
theorem q314 : (Jvm.Cond.methodLink "java/lang/StringBuilder" (1 : Nat) ({ cls := "java/lang/AbstractStringBuilder", name := "<init>", desc := "(I)V" } : Jvm.MethodName)) ∈ lw_all := lw_g (lw_at lw_m1 152 rfl) rfl
theorem q332 : (Jvm.Cond.lays "java/lang/StringBuilder" "java/lang/AbstractStringBuilder" "value" "[B") ∈ lw_all := lw_g (lw_at lw_m1 170 rfl) rfl
theorem q334 : (Jvm.Cond.lays "java/lang/StringBuilder" "java/lang/AbstractStringBuilder" "coder" "B") ∈ lw_all := lw_g (lw_at lw_m1 172 rfl) rfl
theorem q336 : (Jvm.Cond.lays "java/lang/StringBuilder" "java/lang/AbstractStringBuilder" "maybeLatin1" "Z") ∈ lw_all := lw_g (lw_at lw_m1 174 rfl) rfl
theorem q338 : (Jvm.Cond.lays "java/lang/StringBuilder" "java/lang/AbstractStringBuilder" "count" "I") ∈ lw_all := lw_g (lw_at lw_m1 176 rfl) rfl
theorem q340 : (Jvm.Cond.superclass "java/lang/StringBuilder" "java/lang/AbstractStringBuilder") ∈ lw_all := lw_g (lw_at lw_m1 178 rfl) rfl
theorem q345 : (Jvm.Cond.instanceMethod ({ cls := "java/lang/StringBuilder", name := "append", desc := "(Ljava/lang/String;)Ljava/lang/StringBuilder;" } : Jvm.MethodName)) ∈ lw_all := lw_g (lw_at lw_m1 183 rfl) rfl
theorem q346 : (Jvm.Cond.selects "java/lang/StringBuilder" ({ cls := "java/lang/StringBuilder", name := "append", desc := "(Ljava/lang/String;)Ljava/lang/StringBuilder;" } : Jvm.MethodName) ({ cls := "java/lang/StringBuilder", name := "append", desc := "(Ljava/lang/String;)Ljava/lang/StringBuilder;" } : Jvm.MethodName)) ∈ lw_all := lw_g (lw_at lw_m1 184 rfl) rfl
theorem q347 : (Jvm.Cond.code ({ cls := "java/lang/StringBuilder", name := "append", desc := "(Ljava/lang/String;)Ljava/lang/StringBuilder;" } : Jvm.MethodName) prog_39_method_7_code (2 : Nat) (Option.some (Jvm.ClassFile.FieldType.object "java/lang/StringBuilder"))) ∈ lw_all := lw_g (lw_at lw_m1 185 rfl) rfl
theorem q348 : (Jvm.Cond.methodLink "java/lang/StringBuilder" (29 : Nat) ({ cls := "java/lang/AbstractStringBuilder", name := "append", desc := "(Ljava/lang/String;)Ljava/lang/AbstractStringBuilder;" } : Jvm.MethodName)) ∈ lw_all := lw_g (lw_at lw_m1 186 rfl) rfl
theorem q393 : (Jvm.Cond.selects "java/lang/StringBuilder" ({ cls := "java/lang/AbstractStringBuilder", name := "isLatin1", desc := "()Z" } : Jvm.MethodName) ({ cls := "java/lang/AbstractStringBuilder", name := "isLatin1", desc := "()Z" } : Jvm.MethodName)) ∈ lw_all := lw_g (lw_at lw_m1 231 rfl) rfl
theorem q465 : (Jvm.Cond.instanceMethod ({ cls := "java/lang/StringBuilder", name := "append", desc := "(I)Ljava/lang/StringBuilder;" } : Jvm.MethodName)) ∈ lw_all := lw_g (lw_at lw_m2 63 rfl) rfl
theorem q466 : (Jvm.Cond.selects "java/lang/StringBuilder" ({ cls := "java/lang/StringBuilder", name := "append", desc := "(I)Ljava/lang/StringBuilder;" } : Jvm.MethodName) ({ cls := "java/lang/StringBuilder", name := "append", desc := "(I)Ljava/lang/StringBuilder;" } : Jvm.MethodName)) ∈ lw_all := lw_g (lw_at lw_m2 64 rfl) rfl
theorem q467 : (Jvm.Cond.code ({ cls := "java/lang/StringBuilder", name := "append", desc := "(I)Ljava/lang/StringBuilder;" } : Jvm.MethodName) prog_39_method_15_code (2 : Nat) (Option.some (Jvm.ClassFile.FieldType.object "java/lang/StringBuilder"))) ∈ lw_all := lw_g (lw_at lw_m2 65 rfl) rfl
theorem q468 : (Jvm.Cond.methodLink "java/lang/StringBuilder" (53 : Nat) ({ cls := "java/lang/AbstractStringBuilder", name := "append", desc := "(I)Ljava/lang/AbstractStringBuilder;" } : Jvm.MethodName)) ∈ lw_all := lw_g (lw_at lw_m2 66 rfl) rfl
theorem q490 : (Jvm.Cond.instanceMethod ({ cls := "java/lang/StringBuilder", name := "toString", desc := "()Ljava/lang/String;" } : Jvm.MethodName)) ∈ lw_all := lw_g (lw_at lw_m2 88 rfl) rfl
theorem q491 : (Jvm.Cond.selects "java/lang/StringBuilder" ({ cls := "java/lang/StringBuilder", name := "toString", desc := "()Ljava/lang/String;" } : Jvm.MethodName) ({ cls := "java/lang/StringBuilder", name := "toString", desc := "()Ljava/lang/String;" } : Jvm.MethodName)) ∈ lw_all := lw_g (lw_at lw_m2 89 rfl) rfl
theorem q492 : (Jvm.Cond.code ({ cls := "java/lang/StringBuilder", name := "toString", desc := "()Ljava/lang/String;" } : Jvm.MethodName) prog_39_method_42_code (1 : Nat) (Option.some (Jvm.ClassFile.FieldType.object "java/lang/String"))) ∈ lw_all := lw_g (lw_at lw_m2 90 rfl) rfl
theorem q493 : (Jvm.Cond.classLink "java/lang/StringBuilder" (18 : Nat) "java/lang/String") ∈ lw_all := lw_g (lw_at lw_m2 91 rfl) rfl
theorem q495 : (Jvm.Cond.methodLink "java/lang/StringBuilder" (137 : Nat) ({ cls := "java/lang/String", name := "<init>", desc := "(Ljava/lang/StringBuilder;)V" } : Jvm.MethodName)) ∈ lw_all := lw_g (lw_at lw_m2 93 rfl) rfl
theorem q505 : (Jvm.Cond.selects "java/lang/StringBuilder" ({ cls := "java/lang/AbstractStringBuilder", name := "getValue", desc := "()[B" } : Jvm.MethodName) ({ cls := "java/lang/AbstractStringBuilder", name := "getValue", desc := "()[B" } : Jvm.MethodName)) ∈ lw_all := lw_g (lw_at lw_m2 103 rfl) rfl
theorem q510 : (Jvm.Cond.selects "java/lang/StringBuilder" ({ cls := "java/lang/AbstractStringBuilder", name := "length", desc := "()I" } : Jvm.MethodName) ({ cls := "java/lang/StringBuilder", name := "length", desc := "()I" } : Jvm.MethodName)) ∈ lw_all := lw_g (lw_at lw_m2 108 rfl) rfl
theorem q511 : (Jvm.Cond.instanceMethod ({ cls := "java/lang/StringBuilder", name := "length", desc := "()I" } : Jvm.MethodName)) ∈ lw_all := lw_g (lw_at lw_m2 109 rfl) rfl
theorem q512 : (Jvm.Cond.code ({ cls := "java/lang/StringBuilder", name := "length", desc := "()I" } : Jvm.MethodName) prog_39_method_93_code (1 : Nat) (Option.some Jvm.ClassFile.FieldType.int)) ∈ lw_all := lw_g (lw_at lw_m2 110 rfl) rfl
theorem q513 : (Jvm.Cond.methodLink "java/lang/StringBuilder" (343 : Nat) ({ cls := "java/lang/AbstractStringBuilder", name := "length", desc := "()I" } : Jvm.MethodName)) ∈ lw_all := lw_g (lw_at lw_m2 111 rfl) rfl
theorem q638 : (Jvm.Cond.instanceMethod ({ cls := "java/lang/StringBuilder", name := "append", desc := "(F)Ljava/lang/StringBuilder;" } : Jvm.MethodName)) ∈ lw_all := lw_g (lw_at lw_m2 236 rfl) rfl
theorem q639 : (Jvm.Cond.selects "java/lang/StringBuilder" ({ cls := "java/lang/StringBuilder", name := "append", desc := "(F)Ljava/lang/StringBuilder;" } : Jvm.MethodName) ({ cls := "java/lang/StringBuilder", name := "append", desc := "(F)Ljava/lang/StringBuilder;" } : Jvm.MethodName)) ∈ lw_all := lw_g (lw_at lw_m2 237 rfl) rfl
theorem q640 : (Jvm.Cond.code ({ cls := "java/lang/StringBuilder", name := "append", desc := "(F)Ljava/lang/StringBuilder;" } : Jvm.MethodName) prog_39_method_17_code (2 : Nat) (Option.some (Jvm.ClassFile.FieldType.object "java/lang/StringBuilder"))) ∈ lw_all := lw_g (lw_at lw_m2 238 rfl) rfl
theorem q641 : (Jvm.Cond.methodLink "java/lang/StringBuilder" (59 : Nat) ({ cls := "java/lang/AbstractStringBuilder", name := "append", desc := "(F)Ljava/lang/AbstractStringBuilder;" } : Jvm.MethodName)) ∈ lw_all := lw_g (lw_at lw_m2 239 rfl) rfl
theorem q759 : (Jvm.Cond.instanceMethod ({ cls := "java/lang/StringBuilder", name := "append", desc := "([C)Ljava/lang/StringBuilder;" } : Jvm.MethodName)) ∈ lw_all := lw_g (lw_at lw_m3 117 rfl) rfl
theorem q760 : (Jvm.Cond.selects "java/lang/StringBuilder" ({ cls := "java/lang/StringBuilder", name := "append", desc := "([C)Ljava/lang/StringBuilder;" } : Jvm.MethodName) ({ cls := "java/lang/StringBuilder", name := "append", desc := "([C)Ljava/lang/StringBuilder;" } : Jvm.MethodName)) ∈ lw_all := lw_g (lw_at lw_m3 118 rfl) rfl
theorem q761 : (Jvm.Cond.code ({ cls := "java/lang/StringBuilder", name := "append", desc := "([C)Ljava/lang/StringBuilder;" } : Jvm.MethodName) prog_39_method_11_code (2 : Nat) (Option.some (Jvm.ClassFile.FieldType.object "java/lang/StringBuilder"))) ∈ lw_all := lw_g (lw_at lw_m3 119 rfl) rfl
theorem q762 : (Jvm.Cond.methodLink "java/lang/StringBuilder" (41 : Nat) ({ cls := "java/lang/AbstractStringBuilder", name := "append", desc := "([C)Ljava/lang/AbstractStringBuilder;" } : Jvm.MethodName)) ∈ lw_all := lw_g (lw_at lw_m3 120 rfl) rfl
theorem q789 : (Jvm.Cond.castable "java/lang/StringBuilder" "java/lang/Appendable") ∈ lw_tbl := lw_at lw_m3 147 rfl
theorem q790 : (Jvm.Cond.selects "java/lang/StringBuilder" ({ cls := "java/lang/Appendable", name := "append", desc := "(C)Ljava/lang/Appendable;" } : Jvm.MethodName) ({ cls := "java/lang/StringBuilder", name := "append", desc := "(C)Ljava/lang/Appendable;" } : Jvm.MethodName)) ∈ lw_all := lw_g (lw_at lw_m3 148 rfl) rfl
theorem q791 : (Jvm.Cond.unhidden "java/lang/StringBuilder" "append" "(C)Ljava/lang/Appendable;") ∈ lw_tbl := lw_at lw_m3 149 rfl
theorem q792 : (Jvm.Cond.instanceMethod ({ cls := "java/lang/StringBuilder", name := "append", desc := "(C)Ljava/lang/Appendable;" } : Jvm.MethodName)) ∈ lw_all := lw_g (lw_at lw_m3 150 rfl) rfl
theorem q793 : (Jvm.Cond.publicMethod ({ cls := "java/lang/StringBuilder", name := "append", desc := "(C)Ljava/lang/Appendable;" } : Jvm.MethodName)) ∈ lw_tbl := lw_at lw_m3 151 rfl
theorem q794 : (Jvm.Cond.code ({ cls := "java/lang/StringBuilder", name := "append", desc := "(C)Ljava/lang/Appendable;" } : Jvm.MethodName) prog_39_method_94_code (2 : Nat) (Option.some (Jvm.ClassFile.FieldType.object "java/lang/Appendable"))) ∈ lw_all := lw_g (lw_at lw_m3 152 rfl) rfl
theorem q795 : (Jvm.Cond.methodLink "java/lang/StringBuilder" (284 : Nat) ({ cls := "java/lang/StringBuilder", name := "append", desc := "(C)Ljava/lang/StringBuilder;" } : Jvm.MethodName)) ∈ lw_all := lw_g (lw_at lw_m3 153 rfl) rfl
theorem q796 : (Jvm.Cond.instanceMethod ({ cls := "java/lang/StringBuilder", name := "append", desc := "(C)Ljava/lang/StringBuilder;" } : Jvm.MethodName)) ∈ lw_all := lw_g (lw_at lw_m3 154 rfl) rfl
theorem q797 : (Jvm.Cond.selects "java/lang/StringBuilder" ({ cls := "java/lang/StringBuilder", name := "append", desc := "(C)Ljava/lang/StringBuilder;" } : Jvm.MethodName) ({ cls := "java/lang/StringBuilder", name := "append", desc := "(C)Ljava/lang/StringBuilder;" } : Jvm.MethodName)) ∈ lw_all := lw_g (lw_at lw_m3 155 rfl) rfl
theorem q798 : (Jvm.Cond.code ({ cls := "java/lang/StringBuilder", name := "append", desc := "(C)Ljava/lang/StringBuilder;" } : Jvm.MethodName) prog_39_method_14_code (2 : Nat) (Option.some (Jvm.ClassFile.FieldType.object "java/lang/StringBuilder"))) ∈ lw_all := lw_g (lw_at lw_m3 156 rfl) rfl
theorem q799 : (Jvm.Cond.methodLink "java/lang/StringBuilder" (50 : Nat) ({ cls := "java/lang/AbstractStringBuilder", name := "append", desc := "(C)Ljava/lang/AbstractStringBuilder;" } : Jvm.MethodName)) ∈ lw_all := lw_g (lw_at lw_m3 157 rfl) rfl
theorem q819 : (Jvm.Cond.selects "java/lang/StringBuilder" ({ cls := "java/lang/Appendable", name := "append", desc := "(Ljava/lang/CharSequence;)Ljava/lang/Appendable;" } : Jvm.MethodName) ({ cls := "java/lang/StringBuilder", name := "append", desc := "(Ljava/lang/CharSequence;)Ljava/lang/Appendable;" } : Jvm.MethodName)) ∈ lw_all := lw_g (lw_at lw_m3 177 rfl) rfl
theorem q820 : (Jvm.Cond.unhidden "java/lang/StringBuilder" "append" "(Ljava/lang/CharSequence;)Ljava/lang/Appendable;") ∈ lw_tbl := lw_at lw_m3 178 rfl
theorem q821 : (Jvm.Cond.instanceMethod ({ cls := "java/lang/StringBuilder", name := "append", desc := "(Ljava/lang/CharSequence;)Ljava/lang/Appendable;" } : Jvm.MethodName)) ∈ lw_all := lw_g (lw_at lw_m3 179 rfl) rfl
theorem q822 : (Jvm.Cond.publicMethod ({ cls := "java/lang/StringBuilder", name := "append", desc := "(Ljava/lang/CharSequence;)Ljava/lang/Appendable;" } : Jvm.MethodName)) ∈ lw_tbl := lw_at lw_m3 180 rfl
theorem q823 : (Jvm.Cond.code ({ cls := "java/lang/StringBuilder", name := "append", desc := "(Ljava/lang/CharSequence;)Ljava/lang/Appendable;" } : Jvm.MethodName) prog_39_method_96_code (2 : Nat) (Option.some (Jvm.ClassFile.FieldType.object "java/lang/Appendable"))) ∈ lw_all := lw_g (lw_at lw_m3 181 rfl) rfl
theorem q824 : (Jvm.Cond.methodLink "java/lang/StringBuilder" (299 : Nat) ({ cls := "java/lang/StringBuilder", name := "append", desc := "(Ljava/lang/CharSequence;)Ljava/lang/StringBuilder;" } : Jvm.MethodName)) ∈ lw_all := lw_g (lw_at lw_m3 182 rfl) rfl
theorem q825 : (Jvm.Cond.instanceMethod ({ cls := "java/lang/StringBuilder", name := "append", desc := "(Ljava/lang/CharSequence;)Ljava/lang/StringBuilder;" } : Jvm.MethodName)) ∈ lw_all := lw_g (lw_at lw_m3 183 rfl) rfl
theorem q826 : (Jvm.Cond.selects "java/lang/StringBuilder" ({ cls := "java/lang/StringBuilder", name := "append", desc := "(Ljava/lang/CharSequence;)Ljava/lang/StringBuilder;" } : Jvm.MethodName) ({ cls := "java/lang/StringBuilder", name := "append", desc := "(Ljava/lang/CharSequence;)Ljava/lang/StringBuilder;" } : Jvm.MethodName)) ∈ lw_all := lw_g (lw_at lw_m3 184 rfl) rfl
theorem q827 : (Jvm.Cond.code ({ cls := "java/lang/StringBuilder", name := "append", desc := "(Ljava/lang/CharSequence;)Ljava/lang/StringBuilder;" } : Jvm.MethodName) prog_39_method_9_code (2 : Nat) (Option.some (Jvm.ClassFile.FieldType.object "java/lang/StringBuilder"))) ∈ lw_all := lw_g (lw_at lw_m3 185 rfl) rfl
theorem q828 : (Jvm.Cond.methodLink "java/lang/StringBuilder" (35 : Nat) ({ cls := "java/lang/AbstractStringBuilder", name := "append", desc := "(Ljava/lang/CharSequence;)Ljava/lang/AbstractStringBuilder;" } : Jvm.MethodName)) ∈ lw_all := lw_g (lw_at lw_m3 186 rfl) rfl
theorem q833 : (Jvm.Cond.instanceMethod ({ cls := "java/lang/StringBuilder", name := "append", desc := "(Ljava/lang/String;)Ljava/lang/AbstractStringBuilder;" } : Jvm.MethodName)) ∈ lw_all := lw_g (lw_at lw_m3 191 rfl) rfl
theorem q834 : (Jvm.Cond.code ({ cls := "java/lang/StringBuilder", name := "append", desc := "(Ljava/lang/String;)Ljava/lang/AbstractStringBuilder;" } : Jvm.MethodName) prog_39_method_80_code (2 : Nat) (Option.some (Jvm.ClassFile.FieldType.object "java/lang/AbstractStringBuilder"))) ∈ lw_all := lw_g (lw_at lw_m3 192 rfl) rfl
theorem q835 : (Jvm.Cond.methodLink "java/lang/StringBuilder" (23 : Nat) ({ cls := "java/lang/StringBuilder", name := "append", desc := "(Ljava/lang/String;)Ljava/lang/StringBuilder;" } : Jvm.MethodName)) ∈ lw_all := lw_g (lw_at lw_m3 193 rfl) rfl
theorem q840 : (Jvm.Cond.selects "java/lang/StringBuilder" ({ cls := "java/lang/AbstractStringBuilder", name := "append", desc := "(Ljava/lang/AbstractStringBuilder;)Ljava/lang/AbstractStringBuilder;" } : Jvm.MethodName) ({ cls := "java/lang/AbstractStringBuilder", name := "append", desc := "(Ljava/lang/AbstractStringBuilder;)Ljava/lang/AbstractStringBuilder;" } : Jvm.MethodName)) ∈ lw_all := lw_g (lw_at lw_m3 198 rfl) rfl
theorem q850 : (Jvm.Cond.selects "java/lang/StringBuilder" ({ cls := "java/lang/AbstractStringBuilder", name := "getCoder", desc := "()B" } : Jvm.MethodName) ({ cls := "java/lang/AbstractStringBuilder", name := "getCoder", desc := "()B" } : Jvm.MethodName)) ∈ lw_all := lw_g (lw_at lw_m3 208 rfl) rfl
theorem q855 : (Jvm.Cond.selects "java/lang/StringBuilder" ({ cls := "java/lang/AbstractStringBuilder", name := "getBytes", desc := "([BIB)V" } : Jvm.MethodName) ({ cls := "java/lang/AbstractStringBuilder", name := "getBytes", desc := "([BIB)V" } : Jvm.MethodName)) ∈ lw_all := lw_g (lw_at lw_m3 213 rfl) rfl
theorem q866 : (Jvm.Cond.castable "java/lang/StringBuilder" "java/lang/CharSequence") ∈ lw_tbl := lw_at lw_m3 224 rfl
theorem q867 : (Jvm.Cond.selects "java/lang/StringBuilder" ({ cls := "java/lang/CharSequence", name := "length", desc := "()I" } : Jvm.MethodName) ({ cls := "java/lang/StringBuilder", name := "length", desc := "()I" } : Jvm.MethodName)) ∈ lw_all := lw_g (lw_at lw_m3 225 rfl) rfl
theorem q868 : (Jvm.Cond.unhidden "java/lang/StringBuilder" "length" "()I") ∈ lw_tbl := lw_at lw_m3 226 rfl
theorem q869 : (Jvm.Cond.publicMethod ({ cls := "java/lang/StringBuilder", name := "length", desc := "()I" } : Jvm.MethodName)) ∈ lw_tbl := lw_at lw_m3 227 rfl
theorem q873 : (Jvm.Cond.selects "java/lang/StringBuilder" ({ cls := "java/lang/AbstractStringBuilder", name := "append", desc := "(Ljava/lang/CharSequence;II)Ljava/lang/AbstractStringBuilder;" } : Jvm.MethodName) ({ cls := "java/lang/StringBuilder", name := "append", desc := "(Ljava/lang/CharSequence;II)Ljava/lang/AbstractStringBuilder;" } : Jvm.MethodName)) ∈ lw_all := lw_g (lw_at lw_m3 231 rfl) rfl
theorem q874 : (Jvm.Cond.instanceMethod ({ cls := "java/lang/StringBuilder", name := "append", desc := "(Ljava/lang/CharSequence;II)Ljava/lang/AbstractStringBuilder;" } : Jvm.MethodName)) ∈ lw_all := lw_g (lw_at lw_m3 232 rfl) rfl
theorem q875 : (Jvm.Cond.code ({ cls := "java/lang/StringBuilder", name := "append", desc := "(Ljava/lang/CharSequence;II)Ljava/lang/AbstractStringBuilder;" } : Jvm.MethodName) prog_39_method_77_code (4 : Nat) (Option.some (Jvm.ClassFile.FieldType.object "java/lang/AbstractStringBuilder"))) ∈ lw_all := lw_g (lw_at lw_m3 233 rfl) rfl
theorem q876 : (Jvm.Cond.methodLink "java/lang/StringBuilder" (296 : Nat) ({ cls := "java/lang/StringBuilder", name := "append", desc := "(Ljava/lang/CharSequence;II)Ljava/lang/StringBuilder;" } : Jvm.MethodName)) ∈ lw_all := lw_g (lw_at lw_m3 234 rfl) rfl
theorem q877 : (Jvm.Cond.instanceMethod ({ cls := "java/lang/StringBuilder", name := "append", desc := "(Ljava/lang/CharSequence;II)Ljava/lang/StringBuilder;" } : Jvm.MethodName)) ∈ lw_all := lw_g (lw_at lw_m3 235 rfl) rfl
theorem q878 : (Jvm.Cond.selects "java/lang/StringBuilder" ({ cls := "java/lang/StringBuilder", name := "append", desc := "(Ljava/lang/CharSequence;II)Ljava/lang/StringBuilder;" } : Jvm.MethodName) ({ cls := "java/lang/StringBuilder", name := "append", desc := "(Ljava/lang/CharSequence;II)Ljava/lang/StringBuilder;" } : Jvm.MethodName)) ∈ lw_all := lw_g (lw_at lw_m3 236 rfl) rfl
theorem q879 : (Jvm.Cond.code ({ cls := "java/lang/StringBuilder", name := "append", desc := "(Ljava/lang/CharSequence;II)Ljava/lang/StringBuilder;" } : Jvm.MethodName) prog_39_method_10_code (4 : Nat) (Option.some (Jvm.ClassFile.FieldType.object "java/lang/StringBuilder"))) ∈ lw_all := lw_g (lw_at lw_m3 237 rfl) rfl
theorem q880 : (Jvm.Cond.methodLink "java/lang/StringBuilder" (38 : Nat) ({ cls := "java/lang/AbstractStringBuilder", name := "append", desc := "(Ljava/lang/CharSequence;II)Ljava/lang/AbstractStringBuilder;" } : Jvm.MethodName)) ∈ lw_all := lw_g (lw_at lw_m3 238 rfl) rfl
theorem q920 : (Jvm.Cond.selects "java/lang/StringBuilder" ({ cls := "java/lang/CharSequence", name := "charAt", desc := "(I)C" } : Jvm.MethodName) ({ cls := "java/lang/StringBuilder", name := "charAt", desc := "(I)C" } : Jvm.MethodName)) ∈ lw_all := lw_g (lw_at lw_m4 38 rfl) rfl
theorem q921 : (Jvm.Cond.unhidden "java/lang/StringBuilder" "charAt" "(I)C") ∈ lw_tbl := lw_at lw_m4 39 rfl
theorem q922 : (Jvm.Cond.instanceMethod ({ cls := "java/lang/StringBuilder", name := "charAt", desc := "(I)C" } : Jvm.MethodName)) ∈ lw_all := lw_g (lw_at lw_m4 40 rfl) rfl
theorem q923 : (Jvm.Cond.publicMethod ({ cls := "java/lang/StringBuilder", name := "charAt", desc := "(I)C" } : Jvm.MethodName)) ∈ lw_tbl := lw_at lw_m4 41 rfl
theorem q924 : (Jvm.Cond.code ({ cls := "java/lang/StringBuilder", name := "charAt", desc := "(I)C" } : Jvm.MethodName) prog_39_method_88_code (2 : Nat) (Option.some Jvm.ClassFile.FieldType.char)) ∈ lw_all := lw_g (lw_at lw_m4 42 rfl) rfl
theorem q925 : (Jvm.Cond.methodLink "java/lang/StringBuilder" (329 : Nat) ({ cls := "java/lang/AbstractStringBuilder", name := "charAt", desc := "(I)C" } : Jvm.MethodName)) ∈ lw_all := lw_g (lw_at lw_m4 43 rfl) rfl
theorem q990 : (Jvm.Cond.selects "java/lang/StringBuilder" ({ cls := "java/lang/Object", name := "getClass", desc := "()Ljava/lang/Class;" } : Jvm.MethodName) ({ cls := "java/lang/Object", name := "getClass", desc := "()Ljava/lang/Class;" } : Jvm.MethodName)) ∈ lw_all := lw_g (lw_at lw_m4 108 rfl) rfl
theorem q1070 : (Jvm.Cond.selects "java/lang/StringBuilder" ({ cls := "java/lang/Object", name := "toString", desc := "()Ljava/lang/String;" } : Jvm.MethodName) ({ cls := "java/lang/StringBuilder", name := "toString", desc := "()Ljava/lang/String;" } : Jvm.MethodName)) ∈ lw_all := lw_g (lw_at lw_m4 188 rfl) rfl
theorem q1726 : (Jvm.Cond.selects "java/lang/StringBuilder" ({ cls := "java/lang/Object", name := "hashCode", desc := "()I" } : Jvm.MethodName) ({ cls := "java/lang/Object", name := "hashCode", desc := "()I" } : Jvm.MethodName)) ∈ lw_all := lw_g (lw_at lw_m7 124 rfl) rfl
theorem q1765 : (Jvm.Cond.selects "java/lang/StringBuilder" ({ cls := "java/lang/Object", name := "equals", desc := "(Ljava/lang/Object;)Z" } : Jvm.MethodName) ({ cls := "java/lang/Object", name := "equals", desc := "(Ljava/lang/Object;)Z" } : Jvm.MethodName)) ∈ lw_all := lw_g (lw_at lw_m7 163 rfl) rfl
theorem q1972 : (Jvm.Cond.castable "java/lang/StringBuilder" "java/lang/Comparable") ∈ lw_tbl := lw_at lw_m8 130 rfl
theorem q1973 : (Jvm.Cond.selects "java/lang/StringBuilder" ({ cls := "java/lang/Comparable", name := "compareTo", desc := "(Ljava/lang/Object;)I" } : Jvm.MethodName) ({ cls := "java/lang/StringBuilder", name := "compareTo", desc := "(Ljava/lang/Object;)I" } : Jvm.MethodName)) ∈ lw_all := lw_g (lw_at lw_m8 131 rfl) rfl
theorem q1974 : (Jvm.Cond.unhidden "java/lang/StringBuilder" "compareTo" "(Ljava/lang/Object;)I") ∈ lw_tbl := lw_at lw_m8 132 rfl
theorem q1975 : (Jvm.Cond.instanceMethod ({ cls := "java/lang/StringBuilder", name := "compareTo", desc := "(Ljava/lang/Object;)I" } : Jvm.MethodName)) ∈ lw_all := lw_g (lw_at lw_m8 133 rfl) rfl
theorem q1976 : (Jvm.Cond.publicMethod ({ cls := "java/lang/StringBuilder", name := "compareTo", desc := "(Ljava/lang/Object;)I" } : Jvm.MethodName)) ∈ lw_tbl := lw_at lw_m8 134 rfl
theorem q1977 : (Jvm.Cond.code ({ cls := "java/lang/StringBuilder", name := "compareTo", desc := "(Ljava/lang/Object;)I" } : Jvm.MethodName) prog_39_method_97_code (2 : Nat) (Option.some Jvm.ClassFile.FieldType.int)) ∈ lw_all := lw_g (lw_at lw_m8 135 rfl) rfl
theorem q1978 : (Jvm.Cond.classLink "java/lang/StringBuilder" (24 : Nat) "java/lang/StringBuilder") ∈ lw_all := lw_g (lw_at lw_m8 136 rfl) rfl
theorem q1979 : (Jvm.Cond.methodLink "java/lang/StringBuilder" (346 : Nat) ({ cls := "java/lang/StringBuilder", name := "compareTo", desc := "(Ljava/lang/StringBuilder;)I" } : Jvm.MethodName)) ∈ lw_all := lw_g (lw_at lw_m8 137 rfl) rfl
theorem q1980 : (Jvm.Cond.instanceMethod ({ cls := "java/lang/StringBuilder", name := "compareTo", desc := "(Ljava/lang/StringBuilder;)I" } : Jvm.MethodName)) ∈ lw_all := lw_g (lw_at lw_m8 138 rfl) rfl
theorem q1981 : (Jvm.Cond.selects "java/lang/StringBuilder" ({ cls := "java/lang/StringBuilder", name := "compareTo", desc := "(Ljava/lang/StringBuilder;)I" } : Jvm.MethodName) ({ cls := "java/lang/StringBuilder", name := "compareTo", desc := "(Ljava/lang/StringBuilder;)I" } : Jvm.MethodName)) ∈ lw_all := lw_g (lw_at lw_m8 139 rfl) rfl
theorem q1982 : (Jvm.Cond.code ({ cls := "java/lang/StringBuilder", name := "compareTo", desc := "(Ljava/lang/StringBuilder;)I" } : Jvm.MethodName) prog_39_method_5_code (2 : Nat) (Option.some Jvm.ClassFile.FieldType.int)) ∈ lw_all := lw_g (lw_at lw_m8 140 rfl) rfl
theorem q1983 : (Jvm.Cond.methodLink "java/lang/StringBuilder" (13 : Nat) ({ cls := "java/lang/AbstractStringBuilder", name := "compareTo", desc := "(Ljava/lang/AbstractStringBuilder;)I" } : Jvm.MethodName)) ∈ lw_all := lw_g (lw_at lw_m8 141 rfl) rfl
theorem q2960 : (Jvm.Cond.instanceMethod ({ cls := "java/lang/StringBuilder", name := "setLength", desc := "(I)V" } : Jvm.MethodName)) ∈ lw_all := lw_g (lw_at lw_m12 158 rfl) rfl
theorem q2961 : (Jvm.Cond.selects "java/lang/StringBuilder" ({ cls := "java/lang/StringBuilder", name := "setLength", desc := "(I)V" } : Jvm.MethodName) ({ cls := "java/lang/StringBuilder", name := "setLength", desc := "(I)V" } : Jvm.MethodName)) ∈ lw_all := lw_g (lw_at lw_m12 159 rfl) rfl
theorem q2962 : (Jvm.Cond.code ({ cls := "java/lang/StringBuilder", name := "setLength", desc := "(I)V" } : Jvm.MethodName) prog_39_method_89_code (2 : Nat) (Option.none : Option Jvm.ClassFile.FieldType)) ∈ lw_all := lw_g (lw_at lw_m12 160 rfl) rfl
theorem q2963 : (Jvm.Cond.methodLink "java/lang/StringBuilder" (333 : Nat) ({ cls := "java/lang/AbstractStringBuilder", name := "setLength", desc := "(I)V" } : Jvm.MethodName)) ∈ lw_all := lw_g (lw_at lw_m12 161 rfl) rfl
theorem q4581 : (Jvm.Cond.selects "java/lang/StringBuilder" ({ cls := "java/lang/AbstractStringBuilder", name := "append", desc := "(Ljava/lang/String;)Ljava/lang/AbstractStringBuilder;" } : Jvm.MethodName) ({ cls := "java/lang/StringBuilder", name := "append", desc := "(Ljava/lang/String;)Ljava/lang/AbstractStringBuilder;" } : Jvm.MethodName)) ∈ lw_all := lw_g (lw_at lw_m19 99 rfl) rfl
theorem q4588 : (Jvm.Cond.selects "java/lang/StringBuilder" ({ cls := "java/lang/StringBuilder", name := "length", desc := "()I" } : Jvm.MethodName) ({ cls := "java/lang/StringBuilder", name := "length", desc := "()I" } : Jvm.MethodName)) ∈ lw_all := lw_g (lw_at lw_m19 106 rfl) rfl
theorem q4589 : (Jvm.Cond.selects "java/lang/StringBuilder" ({ cls := "java/lang/StringBuilder", name := "charAt", desc := "(I)C" } : Jvm.MethodName) ({ cls := "java/lang/StringBuilder", name := "charAt", desc := "(I)C" } : Jvm.MethodName)) ∈ lw_all := lw_g (lw_at lw_m19 107 rfl) rfl
theorem q4599 : (Jvm.Cond.castable "java/lang/StringBuilder" "java/lang/AbstractStringBuilder") ∈ lw_tbl := lw_at lw_m19 117 rfl
theorem q4614 : (Jvm.Cond.castable "java/lang/StringBuilder" "java/lang/Object") ∈ lw_tbl := lw_at lw_m19 132 rfl
theorem q174 : (Jvm.Cond.initialized "java/lang/String") ∈ lw_all := lw_g (lw_at lw_m1 12 rfl) rfl
theorem q319 : (Jvm.Cond.laysStatic "java/lang/String" "COMPACT_STRINGS" "Z") ∈ lw_tbl := lw_at lw_m1 157 rfl
theorem q330 : (Jvm.Cond.fieldLink "java/lang/String" (1048 : Nat) "java/lang/AbstractStringBuilder" "maybeLatin1" "Z") ∈ lw_all := lw_g (lw_at lw_m1 168 rfl) rfl
theorem q405 : (Jvm.Cond.static ({ cls := "java/lang/String", name := "checkBoundsBeginEnd", desc := "(III)V" } : Jvm.MethodName)) ∈ lw_all := lw_g (lw_at lw_m2 3 rfl) rfl
theorem q406 : (Jvm.Cond.code ({ cls := "java/lang/String", name := "checkBoundsBeginEnd", desc := "(III)V" } : Jvm.MethodName) prog_37_method_158_code (3 : Nat) (Option.none : Option Jvm.ClassFile.FieldType)) ∈ lw_all := lw_g (lw_at lw_m2 4 rfl) rfl
theorem q407 : (Jvm.Cond.fieldLink "java/lang/String" (1053 : Nat) "jdk/internal/util/Preconditions" "SIOOBE_FORMATTER" "Ljava/util/function/BiFunction;") ∈ lw_all := lw_g (lw_at lw_m2 5 rfl) rfl
theorem q409 : (Jvm.Cond.methodLink "java/lang/String" (1062 : Nat) ({ cls := "jdk/internal/util/Preconditions", name := "checkFromToIndex", desc := "(IIILjava/util/function/BiFunction;)I" } : Jvm.MethodName)) ∈ lw_all := lw_g (lw_at lw_m2 7 rfl) rfl
theorem q422 : (Jvm.Cond.instanceMethod ({ cls := "java/lang/String", name := "length", desc := "()I" } : Jvm.MethodName)) ∈ lw_all := lw_g (lw_at lw_m2 20 rfl) rfl
theorem q423 : (Jvm.Cond.selects "java/lang/String" ({ cls := "java/lang/String", name := "length", desc := "()I" } : Jvm.MethodName) ({ cls := "java/lang/String", name := "length", desc := "()I" } : Jvm.MethodName)) ∈ lw_all := lw_g (lw_at lw_m2 21 rfl) rfl
theorem q424 : (Jvm.Cond.code ({ cls := "java/lang/String", name := "length", desc := "()I" } : Jvm.MethodName) prog_37_method_54_code (1 : Nat) (Option.some Jvm.ClassFile.FieldType.int)) ∈ lw_all := lw_g (lw_at lw_m2 22 rfl) rfl
theorem q425 : (Jvm.Cond.methodLink "java/lang/String" (335 : Nat) ({ cls := "java/lang/String", name := "coder", desc := "()B" } : Jvm.MethodName)) ∈ lw_all := lw_g (lw_at lw_m2 23 rfl) rfl
theorem q426 : (Jvm.Cond.instanceMethod ({ cls := "java/lang/String", name := "coder", desc := "()B" } : Jvm.MethodName)) ∈ lw_all := lw_g (lw_at lw_m2 24 rfl) rfl
theorem q427 : (Jvm.Cond.selects "java/lang/String" ({ cls := "java/lang/String", name := "coder", desc := "()B" } : Jvm.MethodName) ({ cls := "java/lang/String", name := "coder", desc := "()B" } : Jvm.MethodName)) ∈ lw_all := lw_g (lw_at lw_m2 25 rfl) rfl
theorem q428 : (Jvm.Cond.code ({ cls := "java/lang/String", name := "coder", desc := "()B" } : Jvm.MethodName) prog_37_method_152_code (1 : Nat) (Option.some Jvm.ClassFile.FieldType.byte)) ∈ lw_all := lw_g (lw_at lw_m2 26 rfl) rfl
theorem q429 : (Jvm.Cond.fieldLink "java/lang/String" (38 : Nat) "java/lang/String" "COMPACT_STRINGS" "Z") ∈ lw_all := lw_g (lw_at lw_m2 27 rfl) rfl
theorem q453 : (Jvm.Cond.static ({ cls := "java/lang/String", name := "checkBoundsOffCount", desc := "(III)I" } : Jvm.MethodName)) ∈ lw_all := lw_g (lw_at lw_m2 51 rfl) rfl
theorem q454 : (Jvm.Cond.code ({ cls := "java/lang/String", name := "checkBoundsOffCount", desc := "(III)I" } : Jvm.MethodName) prog_37_method_157_code (3 : Nat) (Option.some Jvm.ClassFile.FieldType.int)) ∈ lw_all := lw_g (lw_at lw_m2 52 rfl) rfl
theorem q455 : (Jvm.Cond.methodLink "java/lang/String" (1065 : Nat) ({ cls := "jdk/internal/util/Preconditions", name := "checkFromIndexSize", desc := "(IIILjava/util/function/BiFunction;)I" } : Jvm.MethodName)) ∈ lw_all := lw_g (lw_at lw_m2 53 rfl) rfl
theorem q459 : (Jvm.Cond.instanceMethod ({ cls := "java/lang/String", name := "getBytes", desc := "([BIB)V" } : Jvm.MethodName)) ∈ lw_all := lw_g (lw_at lw_m2 57 rfl) rfl
theorem q460 : (Jvm.Cond.selects "java/lang/String" ({ cls := "java/lang/String", name := "getBytes", desc := "([BIB)V" } : Jvm.MethodName) ({ cls := "java/lang/String", name := "getBytes", desc := "([BIB)V" } : Jvm.MethodName)) ∈ lw_all := lw_g (lw_at lw_m2 58 rfl) rfl
theorem q461 : (Jvm.Cond.code ({ cls := "java/lang/String", name := "getBytes", desc := "([BIB)V" } : Jvm.MethodName) prog_37_method_147_code (4 : Nat) (Option.none : Option Jvm.ClassFile.FieldType)) ∈ lw_all := lw_g (lw_at lw_m2 59 rfl) rfl
theorem q462 : (Jvm.Cond.methodLink "java/lang/String" (212 : Nat) ({ cls := "java/lang/System", name := "arraycopy", desc := "(Ljava/lang/Object;ILjava/lang/Object;II)V" } : Jvm.MethodName)) ∈ lw_all := lw_g (lw_at lw_m2 60 rfl) rfl
theorem q463 : (Jvm.Cond.methodLink "java/lang/String" (106 : Nat) ({ cls := "java/lang/StringLatin1", name := "inflate", desc := "([BI[BII)V" } : Jvm.MethodName)) ∈ lw_all := lw_g (lw_at lw_m2 61 rfl) rfl
theorem q494 : (Jvm.Cond.instantiable "java/lang/String" (4 : Nat)) ∈ lw_all := lw_g (lw_at lw_m2 92 rfl) rfl
theorem q496 : (Jvm.Cond.instanceMethod ({ cls := "java/lang/String", name := "<init>", desc := "(Ljava/lang/StringBuilder;)V" } : Jvm.MethodName)) ∈ lw_all := lw_g (lw_at lw_m2 94 rfl) rfl
theorem q497 : (Jvm.Cond.code ({ cls := "java/lang/String", name := "<init>", desc := "(Ljava/lang/StringBuilder;)V" } : Jvm.MethodName) prog_37_method_53_code (2 : Nat) (Option.none : Option Jvm.ClassFile.FieldType)) ∈ lw_all := lw_g (lw_at lw_m2 95 rfl) rfl
theorem q498 : (Jvm.Cond.methodLink "java/lang/String" (489 : Nat) ({ cls := "java/lang/String", name := "<init>", desc := "(Ljava/lang/AbstractStringBuilder;Ljava/lang/Void;)V" } : Jvm.MethodName)) ∈ lw_all := lw_g (lw_at lw_m2 96 rfl) rfl
theorem q499 : (Jvm.Cond.instanceMethod ({ cls := "java/lang/String", name := "<init>", desc := "(Ljava/lang/AbstractStringBuilder;Ljava/lang/Void;)V" } : Jvm.MethodName)) ∈ lw_all := lw_g (lw_at lw_m2 97 rfl) rfl
theorem q500 : (Jvm.Cond.code ({ cls := "java/lang/String", name := "<init>", desc := "(Ljava/lang/AbstractStringBuilder;Ljava/lang/Void;)V" } : Jvm.MethodName) prog_37_method_150_code (5 : Nat) (Option.none : Option Jvm.ClassFile.FieldType)) ∈ lw_all := lw_g (lw_at lw_m2 98 rfl) rfl
theorem q501 : (Jvm.Cond.methodLink "java/lang/String" (1 : Nat) ({ cls := "java/lang/Object", name := "<init>", desc := "()V" } : Jvm.MethodName)) ∈ lw_all := lw_g (lw_at lw_m2 99 rfl) rfl
theorem q502 : (Jvm.Cond.methodLink "java/lang/String" (552 : Nat) ({ cls := "java/lang/AbstractStringBuilder", name := "getValue", desc := "()[B" } : Jvm.MethodName)) ∈ lw_all := lw_g (lw_at lw_m2 100 rfl) rfl
theorem q507 : (Jvm.Cond.methodLink "java/lang/String" (549 : Nat) ({ cls := "java/lang/AbstractStringBuilder", name := "length", desc := "()I" } : Jvm.MethodName)) ∈ lw_all := lw_g (lw_at lw_m2 105 rfl) rfl
theorem q515 : (Jvm.Cond.methodLink "java/lang/String" (1047 : Nat) ({ cls := "java/lang/AbstractStringBuilder", name := "isLatin1", desc := "()Z" } : Jvm.MethodName)) ∈ lw_all := lw_g (lw_at lw_m2 113 rfl) rfl
theorem q516 : (Jvm.Cond.methodLink "java/lang/String" (54 : Nat) ({ cls := "java/util/Arrays", name := "copyOfRange", desc := "([BII)[B" } : Jvm.MethodName)) ∈ lw_all := lw_g (lw_at lw_m2 114 rfl) rfl
theorem q557 : (Jvm.Cond.methodLink "java/lang/String" (1051 : Nat) ({ cls := "java/lang/StringUTF16", name := "compress", desc := "([BII)[B" } : Jvm.MethodName)) ∈ lw_all := lw_g (lw_at lw_m2 155 rfl) rfl
theorem q567 : (Jvm.Cond.methodLink "java/lang/String" (47 : Nat) ({ cls := "java/lang/StringUTF16", name := "coderFromArrayLen", desc := "([BI)B" } : Jvm.MethodName)) ∈ lw_all := lw_g (lw_at lw_m2 165 rfl) rfl
theorem q570 : (Jvm.Cond.fieldLink "java/lang/String" (9 : Nat) "java/lang/String" "value" "[B") ∈ lw_all := lw_g (lw_at lw_m2 168 rfl) rfl
theorem q571 : (Jvm.Cond.fieldLink "java/lang/String" (15 : Nat) "java/lang/String" "coder" "B") ∈ lw_all := lw_g (lw_at lw_m2 169 rfl) rfl
theorem q572 : (Jvm.Cond.fieldLink "java/lang/String" (19 : Nat) "java/lang/String" "hash" "I") ∈ lw_all := lw_g (lw_at lw_m2 170 rfl) rfl
theorem q573 : (Jvm.Cond.fieldLink "java/lang/String" (23 : Nat) "java/lang/String" "hashIsZero" "Z") ∈ lw_all := lw_g (lw_at lw_m2 171 rfl) rfl
theorem q574 : (Jvm.Cond.laysFinal "java/lang/String" "java/lang/String" "value" "[B") ∈ lw_all := lw_g (lw_at lw_m2 172 rfl) rfl
theorem q575 : (Jvm.Cond.soleField "java/lang/String" "value") ∈ lw_all := lw_g (lw_at lw_m2 173 rfl) rfl
theorem q576 : (Jvm.Cond.laysFinal "java/lang/String" "java/lang/String" "coder" "B") ∈ lw_all := lw_g (lw_at lw_m2 174 rfl) rfl
theorem q577 : (Jvm.Cond.soleField "java/lang/String" "coder") ∈ lw_all := lw_g (lw_at lw_m2 175 rfl) rfl
theorem q578 : (Jvm.Cond.lays "java/lang/String" "java/lang/String" "hash" "I") ∈ lw_all := lw_g (lw_at lw_m2 176 rfl) rfl
theorem q579 : (Jvm.Cond.soleField "java/lang/String" "hash") ∈ lw_all := lw_g (lw_at lw_m2 177 rfl) rfl
theorem q580 : (Jvm.Cond.lays "java/lang/String" "java/lang/String" "hashIsZero" "Z") ∈ lw_all := lw_g (lw_at lw_m2 178 rfl) rfl
theorem q581 : (Jvm.Cond.soleField "java/lang/String" "hashIsZero") ∈ lw_all := lw_g (lw_at lw_m2 179 rfl) rfl
theorem q582 : (Jvm.Cond.superclass "java/lang/String" "java/lang/Object") ∈ lw_all := lw_g (lw_at lw_m2 180 rfl) rfl
theorem q809 : (Jvm.Cond.static ({ cls := "java/lang/String", name := "checkIndex", desc := "(II)V" } : Jvm.MethodName)) ∈ lw_all := lw_g (lw_at lw_m3 167 rfl) rfl
theorem q810 : (Jvm.Cond.code ({ cls := "java/lang/String", name := "checkIndex", desc := "(II)V" } : Jvm.MethodName) prog_37_method_155_code (2 : Nat) (Option.none : Option Jvm.ClassFile.FieldType)) ∈ lw_all := lw_g (lw_at lw_m3 168 rfl) rfl
theorem q811 : (Jvm.Cond.methodLink "java/lang/String" (1059 : Nat) ({ cls := "jdk/internal/util/Preconditions", name := "checkIndex", desc := "(IILjava/util/function/BiFunction;)I" } : Jvm.MethodName)) ∈ lw_all := lw_g (lw_at lw_m3 169 rfl) rfl
theorem q862 : (Jvm.Cond.castable "java/lang/String" "java/lang/CharSequence") ∈ lw_tbl := lw_at lw_m3 220 rfl
theorem q863 : (Jvm.Cond.selects "java/lang/String" ({ cls := "java/lang/CharSequence", name := "length", desc := "()I" } : Jvm.MethodName) ({ cls := "java/lang/String", name := "length", desc := "()I" } : Jvm.MethodName)) ∈ lw_all := lw_g (lw_at lw_m3 221 rfl) rfl
theorem q864 : (Jvm.Cond.unhidden "java/lang/String" "length" "()I") ∈ lw_tbl := lw_at lw_m3 222 rfl
theorem q865 : (Jvm.Cond.publicMethod ({ cls := "java/lang/String", name := "length", desc := "()I" } : Jvm.MethodName)) ∈ lw_tbl := lw_at lw_m3 223 rfl
theorem q891 : (Jvm.Cond.instanceMethod ({ cls := "java/lang/String", name := "isLatin1", desc := "()Z" } : Jvm.MethodName)) ∈ lw_all := lw_g (lw_at lw_m4 9 rfl) rfl
theorem q892 : (Jvm.Cond.selects "java/lang/String" ({ cls := "java/lang/String", name := "isLatin1", desc := "()Z" } : Jvm.MethodName) ({ cls := "java/lang/String", name := "isLatin1", desc := "()Z" } : Jvm.MethodName)) ∈ lw_all := lw_g (lw_at lw_m4 10 rfl) rfl
theorem q893 : (Jvm.Cond.code ({ cls := "java/lang/String", name := "isLatin1", desc := "()Z" } : Jvm.MethodName) prog_37_method_154_code (1 : Nat) (Option.some Jvm.ClassFile.FieldType.boolean)) ∈ lw_all := lw_g (lw_at lw_m4 11 rfl) rfl
theorem q895 : (Jvm.Cond.instanceMethod ({ cls := "java/lang/String", name := "value", desc := "()[B" } : Jvm.MethodName)) ∈ lw_all := lw_g (lw_at lw_m4 13 rfl) rfl
theorem q896 : (Jvm.Cond.selects "java/lang/String" ({ cls := "java/lang/String", name := "value", desc := "()[B" } : Jvm.MethodName) ({ cls := "java/lang/String", name := "value", desc := "()[B" } : Jvm.MethodName)) ∈ lw_all := lw_g (lw_at lw_m4 14 rfl) rfl
theorem q897 : (Jvm.Cond.code ({ cls := "java/lang/String", name := "value", desc := "()[B" } : Jvm.MethodName) prog_37_method_153_code (1 : Nat) (Option.some (Jvm.ClassFile.FieldType.array Jvm.ClassFile.FieldType.byte))) ∈ lw_all := lw_g (lw_at lw_m4 15 rfl) rfl
theorem q899 : (Jvm.Cond.instanceMethod ({ cls := "java/lang/String", name := "charAt", desc := "(I)C" } : Jvm.MethodName)) ∈ lw_all := lw_g (lw_at lw_m4 17 rfl) rfl
theorem q900 : (Jvm.Cond.selects "java/lang/String" ({ cls := "java/lang/String", name := "charAt", desc := "(I)C" } : Jvm.MethodName) ({ cls := "java/lang/String", name := "charAt", desc := "(I)C" } : Jvm.MethodName)) ∈ lw_all := lw_g (lw_at lw_m4 18 rfl) rfl
theorem q901 : (Jvm.Cond.code ({ cls := "java/lang/String", name := "charAt", desc := "(I)C" } : Jvm.MethodName) prog_37_method_56_code (2 : Nat) (Option.some Jvm.ClassFile.FieldType.char)) ∈ lw_all := lw_g (lw_at lw_m4 19 rfl) rfl
theorem q902 : (Jvm.Cond.methodLink "java/lang/String" (492 : Nat) ({ cls := "java/lang/String", name := "isLatin1", desc := "()Z" } : Jvm.MethodName)) ∈ lw_all := lw_g (lw_at lw_m4 20 rfl) rfl
theorem q903 : (Jvm.Cond.methodLink "java/lang/String" (495 : Nat) ({ cls := "java/lang/StringLatin1", name := "charAt", desc := "([BI)C" } : Jvm.MethodName)) ∈ lw_all := lw_g (lw_at lw_m4 21 rfl) rfl
theorem q907 : (Jvm.Cond.methodLink "java/lang/String" (498 : Nat) ({ cls := "java/lang/StringUTF16", name := "charAt", desc := "([BI)C" } : Jvm.MethodName)) ∈ lw_all := lw_g (lw_at lw_m4 25 rfl) rfl
theorem q917 : (Jvm.Cond.selects "java/lang/String" ({ cls := "java/lang/CharSequence", name := "charAt", desc := "(I)C" } : Jvm.MethodName) ({ cls := "java/lang/String", name := "charAt", desc := "(I)C" } : Jvm.MethodName)) ∈ lw_all := lw_g (lw_at lw_m4 35 rfl) rfl
theorem q918 : (Jvm.Cond.unhidden "java/lang/String" "charAt" "(I)C") ∈ lw_tbl := lw_at lw_m4 36 rfl
theorem q919 : (Jvm.Cond.publicMethod ({ cls := "java/lang/String", name := "charAt", desc := "(I)C" } : Jvm.MethodName)) ∈ lw_tbl := lw_at lw_m4 37 rfl
theorem q956 : (Jvm.Cond.static ({ cls := "java/lang/String", name := "valueOf", desc := "(Ljava/lang/Object;)Ljava/lang/String;" } : Jvm.MethodName)) ∈ lw_all := lw_g (lw_at lw_m4 74 rfl) rfl
theorem q957 : (Jvm.Cond.code ({ cls := "java/lang/String", name := "valueOf", desc := "(Ljava/lang/Object;)Ljava/lang/String;" } : Jvm.MethodName) prog_37_method_133_code (1 : Nat) (Option.some (Jvm.ClassFile.FieldType.object "java/lang/String"))) ∈ lw_all := lw_g (lw_at lw_m4 75 rfl) rfl
theorem q958 : (Jvm.Cond.stringRef "java/lang/String" (1005 : Nat) "null") ∈ lw_tbl := lw_at lw_m4 76 rfl
theorem q960 : (Jvm.Cond.methodLink "java/lang/String" (1007 : Nat) ({ cls := "java/lang/Object", name := "toString", desc := "()Ljava/lang/String;" } : Jvm.MethodName)) ∈ lw_all := lw_g (lw_at lw_m4 78 rfl) rfl
theorem q989 : (Jvm.Cond.selects "java/lang/String" ({ cls := "java/lang/Object", name := "getClass", desc := "()Ljava/lang/Class;" } : Jvm.MethodName) ({ cls := "java/lang/Object", name := "getClass", desc := "()Ljava/lang/Class;" } : Jvm.MethodName)) ∈ lw_all := lw_g (lw_at lw_m4 107 rfl) rfl
theorem q1064 : (Jvm.Cond.instanceMethod ({ cls := "java/lang/String", name := "<init>", desc := "([BB)V" } : Jvm.MethodName)) ∈ lw_all := lw_g (lw_at lw_m4 182 rfl) rfl
theorem q1065 : (Jvm.Cond.code ({ cls := "java/lang/String", name := "<init>", desc := "([BB)V" } : Jvm.MethodName) prog_37_method_151_code (3 : Nat) (Option.none : Option Jvm.ClassFile.FieldType)) ∈ lw_all := lw_g (lw_at lw_m4 183 rfl) rfl
theorem q1067 : (Jvm.Cond.selects "java/lang/String" ({ cls := "java/lang/Object", name := "toString", desc := "()Ljava/lang/String;" } : Jvm.MethodName) ({ cls := "java/lang/String", name := "toString", desc := "()Ljava/lang/String;" } : Jvm.MethodName)) ∈ lw_all := lw_g (lw_at lw_m4 185 rfl) rfl
theorem q1068 : (Jvm.Cond.instanceMethod ({ cls := "java/lang/String", name := "toString", desc := "()Ljava/lang/String;" } : Jvm.MethodName)) ∈ lw_all := lw_g (lw_at lw_m4 186 rfl) rfl
theorem q1069 : (Jvm.Cond.code ({ cls := "java/lang/String", name := "toString", desc := "()Ljava/lang/String;" } : Jvm.MethodName) prog_37_method_126_code (1 : Nat) (Option.some (Jvm.ClassFile.FieldType.object "java/lang/String"))) ∈ lw_all := lw_g (lw_at lw_m4 187 rfl) rfl
theorem q1548 : (Jvm.Cond.instanceMethod ({ cls := "java/lang/String", name := "equals", desc := "(Ljava/lang/Object;)Z" } : Jvm.MethodName)) ∈ lw_all := lw_g (lw_at lw_m6 186 rfl) rfl
theorem q1549 : (Jvm.Cond.selects "java/lang/String" ({ cls := "java/lang/String", name := "equals", desc := "(Ljava/lang/Object;)Z" } : Jvm.MethodName) ({ cls := "java/lang/String", name := "equals", desc := "(Ljava/lang/Object;)Z" } : Jvm.MethodName)) ∈ lw_all := lw_g (lw_at lw_m6 187 rfl) rfl
theorem q1550 : (Jvm.Cond.code ({ cls := "java/lang/String", name := "equals", desc := "(Ljava/lang/Object;)Z" } : Jvm.MethodName) prog_37_method_66_code (3 : Nat) (Option.some Jvm.ClassFile.FieldType.boolean)) ∈ lw_all := lw_g (lw_at lw_m6 188 rfl) rfl
theorem q1551 : (Jvm.Cond.classLink "java/lang/String" (10 : Nat) "java/lang/String") ∈ lw_all := lw_g (lw_at lw_m6 189 rfl) rfl
theorem q1552 : (Jvm.Cond.methodLink "java/lang/String" (541 : Nat) ({ cls := "java/lang/StringLatin1", name := "equals", desc := "([B[B)Z" } : Jvm.MethodName)) ∈ lw_all := lw_g (lw_at lw_m6 190 rfl) rfl
theorem q1670 : (Jvm.Cond.selects "java/lang/String" ({ cls := "java/lang/Object", name := "hashCode", desc := "()I" } : Jvm.MethodName) ({ cls := "java/lang/String", name := "hashCode", desc := "()I" } : Jvm.MethodName)) ∈ lw_all := lw_g (lw_at lw_m7 68 rfl) rfl
theorem q1671 : (Jvm.Cond.instanceMethod ({ cls := "java/lang/String", name := "hashCode", desc := "()I" } : Jvm.MethodName)) ∈ lw_all := lw_g (lw_at lw_m7 69 rfl) rfl
theorem q1672 : (Jvm.Cond.code ({ cls := "java/lang/String", name := "hashCode", desc := "()I" } : Jvm.MethodName) prog_37_method_78_code (2 : Nat) (Option.some Jvm.ClassFile.FieldType.int)) ∈ lw_all := lw_g (lw_at lw_m7 70 rfl) rfl
theorem q1673 : (Jvm.Cond.methodLink "java/lang/String" (628 : Nat) ({ cls := "java/lang/StringLatin1", name := "hashCode", desc := "([B)I" } : Jvm.MethodName)) ∈ lw_all := lw_g (lw_at lw_m7 71 rfl) rfl
theorem q1722 : (Jvm.Cond.methodLink "java/lang/String" (632 : Nat) ({ cls := "java/lang/StringUTF16", name := "hashCode", desc := "([B)I" } : Jvm.MethodName)) ∈ lw_all := lw_g (lw_at lw_m7 120 rfl) rfl
theorem q1764 : (Jvm.Cond.selects "java/lang/String" ({ cls := "java/lang/Object", name := "equals", desc := "(Ljava/lang/Object;)Z" } : Jvm.MethodName) ({ cls := "java/lang/String", name := "equals", desc := "(Ljava/lang/Object;)Z" } : Jvm.MethodName)) ∈ lw_all := lw_g (lw_at lw_m7 162 rfl) rfl
theorem q1829 : (Jvm.Cond.castable "java/lang/String" "java/lang/Comparable") ∈ lw_tbl := lw_at lw_m7 227 rfl
theorem q1830 : (Jvm.Cond.selects "java/lang/String" ({ cls := "java/lang/Comparable", name := "compareTo", desc := "(Ljava/lang/Object;)I" } : Jvm.MethodName) ({ cls := "java/lang/String", name := "compareTo", desc := "(Ljava/lang/Object;)I" } : Jvm.MethodName)) ∈ lw_all := lw_g (lw_at lw_m7 228 rfl) rfl
theorem q1831 : (Jvm.Cond.unhidden "java/lang/String" "compareTo" "(Ljava/lang/Object;)I") ∈ lw_tbl := lw_at lw_m7 229 rfl
theorem q1832 : (Jvm.Cond.instanceMethod ({ cls := "java/lang/String", name := "compareTo", desc := "(Ljava/lang/Object;)I" } : Jvm.MethodName)) ∈ lw_all := lw_g (lw_at lw_m7 230 rfl) rfl
theorem q1833 : (Jvm.Cond.publicMethod ({ cls := "java/lang/String", name := "compareTo", desc := "(Ljava/lang/Object;)I" } : Jvm.MethodName)) ∈ lw_tbl := lw_at lw_m7 231 rfl
theorem q1834 : (Jvm.Cond.code ({ cls := "java/lang/String", name := "compareTo", desc := "(Ljava/lang/Object;)I" } : Jvm.MethodName) prog_37_method_162_code (2 : Nat) (Option.some Jvm.ClassFile.FieldType.int)) ∈ lw_all := lw_g (lw_at lw_m7 232 rfl) rfl
theorem q1835 : (Jvm.Cond.methodLink "java/lang/String" (1084 : Nat) ({ cls := "java/lang/String", name := "compareTo", desc := "(Ljava/lang/String;)I" } : Jvm.MethodName)) ∈ lw_all := lw_g (lw_at lw_m7 233 rfl) rfl
theorem q1836 : (Jvm.Cond.instanceMethod ({ cls := "java/lang/String", name := "compareTo", desc := "(Ljava/lang/String;)I" } : Jvm.MethodName)) ∈ lw_all := lw_g (lw_at lw_m7 234 rfl) rfl
theorem q1837 : (Jvm.Cond.selects "java/lang/String" ({ cls := "java/lang/String", name := "compareTo", desc := "(Ljava/lang/String;)I" } : Jvm.MethodName) ({ cls := "java/lang/String", name := "compareTo", desc := "(Ljava/lang/String;)I" } : Jvm.MethodName)) ∈ lw_all := lw_g (lw_at lw_m7 235 rfl) rfl
theorem q1838 : (Jvm.Cond.code ({ cls := "java/lang/String", name := "compareTo", desc := "(Ljava/lang/String;)I" } : Jvm.MethodName) prog_37_method_71_code (5 : Nat) (Option.some Jvm.ClassFile.FieldType.int)) ∈ lw_all := lw_g (lw_at lw_m7 236 rfl) rfl
theorem q1839 : (Jvm.Cond.methodLink "java/lang/String" (586 : Nat) ({ cls := "java/lang/StringLatin1", name := "compareTo", desc := "([B[B)I" } : Jvm.MethodName)) ∈ lw_all := lw_g (lw_at lw_m7 237 rfl) rfl
theorem q1950 : (Jvm.Cond.methodLink "java/lang/String" (590 : Nat) ({ cls := "java/lang/StringUTF16", name := "compareTo", desc := "([B[B)I" } : Jvm.MethodName)) ∈ lw_all := lw_g (lw_at lw_m8 108 rfl) rfl
theorem q1957 : (Jvm.Cond.methodLink "java/lang/String" (591 : Nat) ({ cls := "java/lang/StringLatin1", name := "compareToUTF16", desc := "([B[B)I" } : Jvm.MethodName)) ∈ lw_all := lw_g (lw_at lw_m8 115 rfl) rfl
theorem q1968 : (Jvm.Cond.methodLink "java/lang/String" (594 : Nat) ({ cls := "java/lang/StringUTF16", name := "compareToLatin1", desc := "([B[B)I" } : Jvm.MethodName)) ∈ lw_all := lw_g (lw_at lw_m8 126 rfl) rfl
theorem q1994 : (Jvm.Cond.static ({ cls := "java/lang/String", name := "checkOffset", desc := "(II)V" } : Jvm.MethodName)) ∈ lw_all := lw_g (lw_at lw_m8 152 rfl) rfl
theorem q1995 : (Jvm.Cond.code ({ cls := "java/lang/String", name := "checkOffset", desc := "(II)V" } : Jvm.MethodName) prog_37_method_156_code (2 : Nat) (Option.none : Option Jvm.ClassFile.FieldType)) ∈ lw_all := lw_g (lw_at lw_m8 153 rfl) rfl
theorem q4590 : (Jvm.Cond.selects "java/lang/String" ({ cls := "java/lang/String", name := "hashCode", desc := "()I" } : Jvm.MethodName) ({ cls := "java/lang/String", name := "hashCode", desc := "()I" } : Jvm.MethodName)) ∈ lw_all := lw_g (lw_at lw_m19 108 rfl) rfl
theorem q4615 : (Jvm.Cond.castable "java/lang/String" "java/lang/Object") ∈ lw_tbl := lw_at lw_m19 133 rfl
theorem q2942 : (Jvm.Cond.interfaceMethod "EchoFair$Operation" "EchoFair$Operation" "apply" "(LEchoFair$State;)I") ∈ lw_tbl := lw_at lw_m12 140 rfl
theorem q2943 : (Jvm.Cond.declares ({ cls := "EchoFair$Operation", name := "apply", desc := "(LEchoFair$State;)I" } : Jvm.MethodName)) ∈ lw_tbl := lw_at lw_m12 141 rfl
theorem q4609 : (Jvm.Cond.castable "EchoFair$Operation" "java/lang/Object") ∈ lw_tbl := lw_at lw_m19 127 rfl
theorem q203 : (Jvm.Cond.initialized "EchoFair$TokenKind") ∈ lw_all := lw_g (lw_at lw_m1 41 rfl) rfl
theorem q980 : (Jvm.Cond.selects "EchoFair$TokenKind" ({ cls := "java/lang/Object", name := "getClass", desc := "()Ljava/lang/Class;" } : Jvm.MethodName) ({ cls := "java/lang/Object", name := "getClass", desc := "()Ljava/lang/Class;" } : Jvm.MethodName)) ∈ lw_all := lw_g (lw_at lw_m4 98 rfl) rfl
theorem q1043 : (Jvm.Cond.selects "EchoFair$TokenKind" ({ cls := "java/lang/Object", name := "toString", desc := "()Ljava/lang/String;" } : Jvm.MethodName) ({ cls := "java/lang/Enum", name := "toString", desc := "()Ljava/lang/String;" } : Jvm.MethodName)) ∈ lw_all := lw_g (lw_at lw_m4 161 rfl) rfl
theorem q1651 : (Jvm.Cond.selects "EchoFair$TokenKind" ({ cls := "java/lang/Object", name := "hashCode", desc := "()I" } : Jvm.MethodName) ({ cls := "java/lang/Enum", name := "hashCode", desc := "()I" } : Jvm.MethodName)) ∈ lw_all := lw_g (lw_at lw_m7 49 rfl) rfl
theorem q1746 : (Jvm.Cond.selects "EchoFair$TokenKind" ({ cls := "java/lang/Object", name := "equals", desc := "(Ljava/lang/Object;)Z" } : Jvm.MethodName) ({ cls := "java/lang/Enum", name := "equals", desc := "(Ljava/lang/Object;)Z" } : Jvm.MethodName)) ∈ lw_all := lw_g (lw_at lw_m7 144 rfl) rfl
theorem q1798 : (Jvm.Cond.castable "EchoFair$TokenKind" "java/lang/Comparable") ∈ lw_tbl := lw_at lw_m7 196 rfl
theorem q1799 : (Jvm.Cond.selects "EchoFair$TokenKind" ({ cls := "java/lang/Comparable", name := "compareTo", desc := "(Ljava/lang/Object;)I" } : Jvm.MethodName) ({ cls := "java/lang/Enum", name := "compareTo", desc := "(Ljava/lang/Object;)I" } : Jvm.MethodName)) ∈ lw_all := lw_g (lw_at lw_m7 197 rfl) rfl
theorem q1800 : (Jvm.Cond.unhidden "EchoFair$TokenKind" "compareTo" "(Ljava/lang/Object;)I") ∈ lw_tbl := lw_at lw_m7 198 rfl
theorem q1808 : (Jvm.Cond.selects "EchoFair$TokenKind" ({ cls := "java/lang/Enum", name := "compareTo", desc := "(Ljava/lang/Enum;)I" } : Jvm.MethodName) ({ cls := "java/lang/Enum", name := "compareTo", desc := "(Ljava/lang/Enum;)I" } : Jvm.MethodName)) ∈ lw_all := lw_g (lw_at lw_m7 206 rfl) rfl
theorem q1814 : (Jvm.Cond.selects "EchoFair$TokenKind" ({ cls := "java/lang/Enum", name := "getDeclaringClass", desc := "()Ljava/lang/Class;" } : Jvm.MethodName) ({ cls := "java/lang/Enum", name := "getDeclaringClass", desc := "()Ljava/lang/Class;" } : Jvm.MethodName)) ∈ lw_all := lw_g (lw_at lw_m7 212 rfl) rfl
theorem q3100 : (Jvm.Cond.laysStatic "EchoFair$TokenKind" "END" "LEchoFair$TokenKind;") ∈ lw_tbl := lw_at lw_m13 58 rfl
theorem q3105 : (Jvm.Cond.laysStatic "EchoFair$TokenKind" "WORD" "LEchoFair$TokenKind;") ∈ lw_tbl := lw_at lw_m13 63 rfl
theorem q3113 : (Jvm.Cond.laysStatic "EchoFair$TokenKind" "NUMBER" "LEchoFair$TokenKind;") ∈ lw_tbl := lw_at lw_m13 71 rfl
theorem q3115 : (Jvm.Cond.laysStatic "EchoFair$TokenKind" "OTHER" "LEchoFair$TokenKind;") ∈ lw_tbl := lw_at lw_m13 73 rfl
theorem q4595 : (Jvm.Cond.castable "EchoFair$TokenKind" "java/lang/Enum") ∈ lw_tbl := lw_at lw_m19 113 rfl
theorem q4628 : (Jvm.Cond.castable "EchoFair$TokenKind" "java/lang/Object") ∈ lw_tbl := lw_at lw_m19 146 rfl
theorem q4668 : (Jvm.Cond.stringRef "EchoFair$TokenKind" (35 : Nat) "END") ∈ lw_tbl := lw_at lw_m19 186 rfl
theorem q4669 : (Jvm.Cond.stringRef "EchoFair$TokenKind" (37 : Nat) "WORD") ∈ lw_tbl := lw_at lw_m19 187 rfl
theorem q4670 : (Jvm.Cond.stringRef "EchoFair$TokenKind" (38 : Nat) "NUMBER") ∈ lw_tbl := lw_at lw_m19 188 rfl
theorem q4671 : (Jvm.Cond.stringRef "EchoFair$TokenKind" (39 : Nat) "OTHER") ∈ lw_tbl := lw_at lw_m19 189 rfl
theorem q378 : (Jvm.Cond.sameMethod "[B" "java/lang/Object" "clone" "()Ljava/lang/Object;") ∈ lw_all := lw_g (lw_at lw_m1 216 rfl) rfl
theorem q381 : (Jvm.Cond.selects "[B" ({ cls := "[B", name := "clone", desc := "()Ljava/lang/Object;" } : Jvm.MethodName) ({ cls := "java/lang/Object", name := "clone", desc := "()Ljava/lang/Object;" } : Jvm.MethodName)) ∈ lw_all := lw_g (lw_at lw_m1 219 rfl) rfl
theorem q382 : (Jvm.Cond.castable "[B" "java/lang/Cloneable") ∈ lw_tbl := lw_at lw_m1 220 rfl
theorem q4657 : (Jvm.Cond.castable "[B" "java/lang/Object") ∈ lw_tbl := lw_at lw_m19 175 rfl
theorem q4658 : (Jvm.Cond.castable "[C" "java/lang/Object") ∈ lw_tbl := lw_at lw_m19 176 rfl
theorem q2381 : (Jvm.Cond.sameMethod "[I" "java/lang/Object" "clone" "()Ljava/lang/Object;") ∈ lw_all := lw_g (lw_at lw_m10 59 rfl) rfl
theorem q2382 : (Jvm.Cond.selects "[I" ({ cls := "[I", name := "clone", desc := "()Ljava/lang/Object;" } : Jvm.MethodName) ({ cls := "java/lang/Object", name := "clone", desc := "()Ljava/lang/Object;" } : Jvm.MethodName)) ∈ lw_all := lw_g (lw_at lw_m10 60 rfl) rfl
theorem q2383 : (Jvm.Cond.castable "[I" "java/lang/Cloneable") ∈ lw_tbl := lw_at lw_m10 61 rfl
theorem q4656 : (Jvm.Cond.castable "[I" "java/lang/Object") ∈ lw_tbl := lw_at lw_m19 174 rfl
theorem q4662 : (Jvm.Cond.castable "[J" "java/lang/Object") ∈ lw_tbl := lw_at lw_m19 180 rfl
theorem q4661 : (Jvm.Cond.castable "[LEchoFair$Operation;" "java/lang/Object") ∈ lw_tbl := lw_at lw_m19 179 rfl
theorem q4652 : (Jvm.Cond.sameMethod "[Ljava/lang/Object;" "java/lang/Object" "getClass" "()Ljava/lang/Class;") ∈ lw_all := lw_g (lw_at lw_m19 170 rfl) rfl
theorem q4653 : (Jvm.Cond.selects "[Ljava/lang/Object;" ({ cls := "java/lang/Object", name := "getClass", desc := "()Ljava/lang/Class;" } : Jvm.MethodName) ({ cls := "java/lang/Object", name := "getClass", desc := "()Ljava/lang/Class;" } : Jvm.MethodName)) ∈ lw_all := lw_g (lw_at lw_m19 171 rfl) rfl
theorem q4655 : (Jvm.Cond.castable "[Ljava/lang/Object;" "java/lang/Object") ∈ lw_tbl := lw_at lw_m19 173 rfl
theorem q4660 : (Jvm.Cond.castable "[Ljava/util/HashMap$Node;" "java/lang/Object") ∈ lw_tbl := lw_at lw_m19 178 rfl
theorem q2376 : (Jvm.Cond.sameMethod "[Z" "java/lang/Object" "clone" "()Ljava/lang/Object;") ∈ lw_all := lw_g (lw_at lw_m10 54 rfl) rfl
theorem q2377 : (Jvm.Cond.selects "[Z" ({ cls := "[Z", name := "clone", desc := "()Ljava/lang/Object;" } : Jvm.MethodName) ({ cls := "java/lang/Object", name := "clone", desc := "()Ljava/lang/Object;" } : Jvm.MethodName)) ∈ lw_all := lw_g (lw_at lw_m10 55 rfl) rfl
theorem q2378 : (Jvm.Cond.castable "[Z" "java/lang/Cloneable") ∈ lw_tbl := lw_at lw_m10 56 rfl
theorem q4659 : (Jvm.Cond.castable "[Z" "java/lang/Object") ∈ lw_tbl := lw_at lw_m19 177 rfl
theorem q787 : (Jvm.Cond.interfaceMethod "java/lang/Appendable" "java/lang/Appendable" "append" "(C)Ljava/lang/Appendable;") ∈ lw_tbl := lw_at lw_m3 145 rfl
theorem q788 : (Jvm.Cond.declares ({ cls := "java/lang/Appendable", name := "append", desc := "(C)Ljava/lang/Appendable;" } : Jvm.MethodName)) ∈ lw_tbl := lw_at lw_m3 146 rfl
theorem q817 : (Jvm.Cond.interfaceMethod "java/lang/Appendable" "java/lang/Appendable" "append" "(Ljava/lang/CharSequence;)Ljava/lang/Appendable;") ∈ lw_tbl := lw_at lw_m3 175 rfl
theorem q818 : (Jvm.Cond.declares ({ cls := "java/lang/Appendable", name := "append", desc := "(Ljava/lang/CharSequence;)Ljava/lang/Appendable;" } : Jvm.MethodName)) ∈ lw_tbl := lw_at lw_m3 176 rfl
theorem q860 : (Jvm.Cond.interfaceMethod "java/lang/CharSequence" "java/lang/CharSequence" "length" "()I") ∈ lw_tbl := lw_at lw_m3 218 rfl
theorem q861 : (Jvm.Cond.declares ({ cls := "java/lang/CharSequence", name := "length", desc := "()I" } : Jvm.MethodName)) ∈ lw_tbl := lw_at lw_m3 219 rfl
theorem q915 : (Jvm.Cond.interfaceMethod "java/lang/CharSequence" "java/lang/CharSequence" "charAt" "(I)C") ∈ lw_tbl := lw_at lw_m4 33 rfl
theorem q916 : (Jvm.Cond.declares ({ cls := "java/lang/CharSequence", name := "charAt", desc := "(I)C" } : Jvm.MethodName)) ∈ lw_tbl := lw_at lw_m4 34 rfl
theorem q1796 : (Jvm.Cond.interfaceMethod "java/lang/Comparable" "java/lang/Comparable" "compareTo" "(Ljava/lang/Object;)I") ∈ lw_tbl := lw_at lw_m7 194 rfl
theorem q1797 : (Jvm.Cond.declares ({ cls := "java/lang/Comparable", name := "compareTo", desc := "(Ljava/lang/Object;)I" } : Jvm.MethodName)) ∈ lw_tbl := lw_at lw_m7 195 rfl
theorem q225 : (Jvm.Cond.initialized "java/lang/Double") ∈ lw_all := lw_g (lw_at lw_m1 63 rfl) rfl
theorem q2852 : (Jvm.Cond.static ({ cls := "java/lang/Double", name := "doubleToRawLongBits", desc := "(D)J" } : Jvm.MethodName)) ∈ lw_all := lw_g (lw_at lw_m12 50 rfl) rfl
theorem q2853 : (Jvm.Cond.native ({ cls := "java/lang/Double", name := "doubleToRawLongBits", desc := "(D)J" } : Jvm.MethodName)) ∈ lw_all := lw_g (lw_at lw_m12 51 rfl) rfl
theorem q2862 : (Jvm.Cond.static ({ cls := "java/lang/Double", name := "longBitsToDouble", desc := "(J)D" } : Jvm.MethodName)) ∈ lw_all := lw_g (lw_at lw_m12 60 rfl) rfl
theorem q2863 : (Jvm.Cond.native ({ cls := "java/lang/Double", name := "longBitsToDouble", desc := "(J)D" } : Jvm.MethodName)) ∈ lw_all := lw_g (lw_at lw_m12 61 rfl) rfl
theorem q211 : (Jvm.Cond.initialized "java/lang/Integer$IntegerCache") ∈ lw_all := lw_g (lw_at lw_m1 49 rfl) rfl
theorem q2267 : (Jvm.Cond.laysStatic "java/lang/Integer$IntegerCache" "high" "I") ∈ lw_tbl := lw_at lw_m9 185 rfl
theorem q2269 : (Jvm.Cond.laysStatic "java/lang/Integer$IntegerCache" "cache" "[Ljava/lang/Integer;") ∈ lw_tbl := lw_at lw_m9 187 rfl
theorem q780 : (Jvm.Cond.instanceMethod ({ cls := "java/lang/StringBuffer", name := "append", desc := "([C)Ljava/lang/StringBuffer;" } : Jvm.MethodName)) ∈ lw_all := lw_g (lw_at lw_m3 138 rfl) rfl
theorem q781 : (Jvm.Cond.selects "java/lang/StringBuffer" ({ cls := "java/lang/StringBuffer", name := "append", desc := "([C)Ljava/lang/StringBuffer;" } : Jvm.MethodName) ({ cls := "java/lang/StringBuffer", name := "append", desc := "([C)Ljava/lang/StringBuffer;" } : Jvm.MethodName)) ∈ lw_all := lw_g (lw_at lw_m3 139 rfl) rfl
theorem q782 : (Jvm.Cond.codeSync ({ cls := "java/lang/StringBuffer", name := "append", desc := "([C)Ljava/lang/StringBuffer;" } : Jvm.MethodName) prog_38_method_24_code (2 : Nat) (Option.some (Jvm.ClassFile.FieldType.object "java/lang/StringBuffer"))) ∈ lw_all := lw_g (lw_at lw_m3 140 rfl) rfl
theorem q783 : (Jvm.Cond.methodLink "java/lang/StringBuffer" (89 : Nat) ({ cls := "java/lang/AbstractStringBuilder", name := "append", desc := "([C)Ljava/lang/AbstractStringBuilder;" } : Jvm.MethodName)) ∈ lw_all := lw_g (lw_at lw_m3 141 rfl) rfl
theorem q784 : (Jvm.Cond.superclass "java/lang/StringBuffer" "java/lang/AbstractStringBuilder") ∈ lw_all := lw_g (lw_at lw_m3 142 rfl) rfl
theorem q4664 : (Jvm.Cond.fieldLink "java/lang/StringBuffer" (34 : Nat) "java/lang/StringBuffer" "toStringCache" "Ljava/lang/String;") ∈ lw_all := lw_g (lw_at lw_m19 182 rfl) rfl
theorem q179 : (Jvm.Cond.initialized "java/lang/System") ∈ lw_all := lw_g (lw_at lw_m1 17 rfl) rfl
theorem q388 : (Jvm.Cond.static ({ cls := "java/lang/System", name := "arraycopy", desc := "(Ljava/lang/Object;ILjava/lang/Object;II)V" } : Jvm.MethodName)) ∈ lw_all := lw_g (lw_at lw_m1 226 rfl) rfl
theorem q389 : (Jvm.Cond.native ({ cls := "java/lang/System", name := "arraycopy", desc := "(Ljava/lang/Object;ILjava/lang/Object;II)V" } : Jvm.MethodName)) ∈ lw_all := lw_g (lw_at lw_m1 227 rfl) rfl
theorem q1655 : (Jvm.Cond.static ({ cls := "java/lang/System", name := "identityHashCode", desc := "(Ljava/lang/Object;)I" } : Jvm.MethodName)) ∈ lw_all := lw_g (lw_at lw_m7 53 rfl) rfl
theorem q1656 : (Jvm.Cond.native ({ cls := "java/lang/System", name := "identityHashCode", desc := "(Ljava/lang/Object;)I" } : Jvm.MethodName)) ∈ lw_all := lw_g (lw_at lw_m7 54 rfl) rfl
theorem q2393 : (Jvm.Cond.interfaceMethod "java/util/Collection" "java/util/Collection" "iterator" "()Ljava/util/Iterator;") ∈ lw_tbl := lw_at lw_m10 71 rfl
theorem q2394 : (Jvm.Cond.declares ({ cls := "java/util/Collection", name := "iterator", desc := "()Ljava/util/Iterator;" } : Jvm.MethodName)) ∈ lw_tbl := lw_at lw_m10 72 rfl
theorem q2070 : (Jvm.Cond.interfaceMethod "java/util/Iterator" "java/util/Iterator" "hasNext" "()Z") ∈ lw_tbl := lw_at lw_m8 228 rfl
theorem q2071 : (Jvm.Cond.declares ({ cls := "java/util/Iterator", name := "hasNext", desc := "()Z" } : Jvm.MethodName)) ∈ lw_tbl := lw_at lw_m8 229 rfl
theorem q2104 : (Jvm.Cond.interfaceMethod "java/util/Iterator" "java/util/Iterator" "next" "()Ljava/lang/Object;") ∈ lw_tbl := lw_at lw_m9 22 rfl
theorem q2105 : (Jvm.Cond.declares ({ cls := "java/util/Iterator", name := "next", desc := "()Ljava/lang/Object;" } : Jvm.MethodName)) ∈ lw_tbl := lw_at lw_m9 23 rfl
theorem q1313 : (Jvm.Cond.interfaceMethod "java/util/List" "java/util/List" "add" "(Ljava/lang/Object;)Z") ∈ lw_tbl := lw_at lw_m5 191 rfl
theorem q1314 : (Jvm.Cond.declares ({ cls := "java/util/List", name := "add", desc := "(Ljava/lang/Object;)Z" } : Jvm.MethodName)) ∈ lw_tbl := lw_at lw_m5 192 rfl
theorem q1421 : (Jvm.Cond.interfaceMethod "java/util/List" "java/util/List" "get" "(I)Ljava/lang/Object;") ∈ lw_tbl := lw_at lw_m6 59 rfl
theorem q1422 : (Jvm.Cond.declares ({ cls := "java/util/List", name := "get", desc := "(I)Ljava/lang/Object;" } : Jvm.MethodName)) ∈ lw_tbl := lw_at lw_m6 60 rfl
theorem q1501 : (Jvm.Cond.interfaceMethod "java/util/List" "java/util/List" "size" "()I") ∈ lw_tbl := lw_at lw_m6 139 rfl
theorem q1502 : (Jvm.Cond.declares ({ cls := "java/util/List", name := "size", desc := "()I" } : Jvm.MethodName)) ∈ lw_tbl := lw_at lw_m6 140 rfl
theorem q2042 : (Jvm.Cond.interfaceMethod "java/util/List" "java/util/List" "iterator" "()Ljava/util/Iterator;") ∈ lw_tbl := lw_at lw_m8 200 rfl
theorem q2043 : (Jvm.Cond.declares ({ cls := "java/util/List", name := "iterator", desc := "()Ljava/util/Iterator;" } : Jvm.MethodName)) ∈ lw_tbl := lw_at lw_m8 201 rfl
theorem q3254 : (Jvm.Cond.interfaceMethod "java/util/List" "java/util/List" "isEmpty" "()Z") ∈ lw_tbl := lw_at lw_m13 212 rfl
theorem q3255 : (Jvm.Cond.declares ({ cls := "java/util/List", name := "isEmpty", desc := "()Z" } : Jvm.MethodName)) ∈ lw_tbl := lw_at lw_m13 213 rfl
theorem q2827 : (Jvm.Cond.interfaceMethod "java/util/Map" "java/util/Map" "size" "()I") ∈ lw_tbl := lw_at lw_m12 25 rfl
theorem q2828 : (Jvm.Cond.declares ({ cls := "java/util/Map", name := "size", desc := "()I" } : Jvm.MethodName)) ∈ lw_tbl := lw_at lw_m12 26 rfl
theorem q2867 : (Jvm.Cond.interfaceMethod "java/util/Map" "java/util/Map" "entrySet" "()Ljava/util/Set;") ∈ lw_tbl := lw_at lw_m12 65 rfl
theorem q2868 : (Jvm.Cond.declares ({ cls := "java/util/Map", name := "entrySet", desc := "()Ljava/util/Set;" } : Jvm.MethodName)) ∈ lw_tbl := lw_at lw_m12 66 rfl
theorem q2915 : (Jvm.Cond.interfaceMethod "java/util/Map$Entry" "java/util/Map$Entry" "getKey" "()Ljava/lang/Object;") ∈ lw_tbl := lw_at lw_m12 113 rfl
theorem q2916 : (Jvm.Cond.declares ({ cls := "java/util/Map$Entry", name := "getKey", desc := "()Ljava/lang/Object;" } : Jvm.MethodName)) ∈ lw_tbl := lw_at lw_m12 114 rfl
theorem q2929 : (Jvm.Cond.interfaceMethod "java/util/Map$Entry" "java/util/Map$Entry" "getValue" "()Ljava/lang/Object;") ∈ lw_tbl := lw_at lw_m12 127 rfl
theorem q2930 : (Jvm.Cond.declares ({ cls := "java/util/Map$Entry", name := "getValue", desc := "()Ljava/lang/Object;" } : Jvm.MethodName)) ∈ lw_tbl := lw_at lw_m12 128 rfl
theorem q2571 : (Jvm.Cond.interfaceMethod "java/util/Set" "java/util/Set" "iterator" "()Ljava/util/Iterator;") ∈ lw_tbl := lw_at lw_m11 9 rfl
theorem q2572 : (Jvm.Cond.declares ({ cls := "java/util/Set", name := "iterator", desc := "()Ljava/util/Iterator;" } : Jvm.MethodName)) ∈ lw_tbl := lw_at lw_m11 10 rfl
theorem q1690 : (Jvm.Cond.interfaceMethod "jdk/internal/access/JavaLangAccess" "jdk/internal/access/JavaLangAccess" "getUTF16Char" "([BI)C") ∈ lw_tbl := lw_at lw_m7 88 rfl
theorem q1691 : (Jvm.Cond.declares ({ cls := "jdk/internal/access/JavaLangAccess", name := "getUTF16Char", desc := "([BI)C" } : Jvm.MethodName)) ∈ lw_tbl := lw_at lw_m7 89 rfl
theorem q209 : (Jvm.Cond.initialized "jdk/internal/misc/UnsafeConstants") ∈ lw_all := lw_g (lw_at lw_m1 47 rfl) rfl
theorem q1886 : (Jvm.Cond.laysStatic "jdk/internal/misc/UnsafeConstants" "BIG_ENDIAN" "Z") ∈ lw_tbl := lw_at lw_m8 44 rfl
theorem q261 : (Jvm.Cond.arrayOver (Jvm.ClassFile.FieldType.object "java/lang/Object")) ∈ lw_tbl := lw_at lw_m1 99 rfl
theorem q341 : (Jvm.Cond.arrayClass Jvm.ClassFile.FieldType.int) ∈ lw_all := lw_g (lw_at lw_m1 179 rfl) rfl
theorem q342 : (Jvm.Cond.arrayClass Jvm.ClassFile.FieldType.byte) ∈ lw_all := lw_g (lw_at lw_m1 180 rfl) rfl
theorem q1084 : (Jvm.Cond.arrayClass Jvm.ClassFile.FieldType.char) ∈ lw_all := lw_g (lw_at lw_m4 202 rfl) rfl
theorem q1412 : (Jvm.Cond.arrayClass Jvm.ClassFile.FieldType.boolean) ∈ lw_all := lw_g (lw_at lw_m6 50 rfl) rfl
theorem q2625 : (Jvm.Cond.arrayOver (Jvm.ClassFile.FieldType.object "java/util/HashMap$Node")) ∈ lw_tbl := lw_at lw_m11 63 rfl
theorem q3288 : (Jvm.Cond.arrayOver (Jvm.ClassFile.FieldType.object "EchoFair$Operation")) ∈ lw_tbl := lw_at lw_m14 6 rfl
theorem q4566 : (Jvm.Cond.arrayClass Jvm.ClassFile.FieldType.long) ∈ lw_all := lw_g (lw_at lw_m19 84 rfl) rfl
theorem q4663 : (Jvm.Cond.arrayClass Jvm.ClassFile.FieldType.short) ∈ lw_all := lw_g (lw_at lw_m19 181 rfl) rfl
theorem in_X1 : ∀ w ∈ wsX10, w ∈ lw_all := lw_in wsX10 [1470, 1472, 1474, 1476, 1478, 1480, 1482, 1484] (by decide +kernel) (by decide +kernel)
theorem in_X2 : ∀ w ∈ wsX20, w ∈ lw_all := lw_in wsX20 [1228, 1230, 1232, 1234, 1236, 1238, 1240, 1242, 1244, 1246, 1248, 1250, 1252] (by decide +kernel) (by decide +kernel)
theorem in_X3 : ∀ w ∈ wsX30, w ∈ lw_all := lw_in wsX30 [1292, 1294, 1296, 1298, 1300, 1302, 1304, 1306, 1308] (by decide +kernel) (by decide +kernel)
theorem in_X4 : ∀ w ∈ wsX40, w ∈ lw_all := lw_in wsX40 [1391, 1393, 1395, 1397, 1399, 1401, 1403, 1405, 1407, 1409] (by decide +kernel) (by decide +kernel)
theorem in_X5 : ∀ w ∈ wsX50, w ∈ lw_all := lw_in wsX50 [3966, 3968, 3970, 3972, 3974, 3976, 3978, 3980, 3982, 3984, 3986, 3988, 3990, 3992, 3994, 3996, 3998, 4000, 4002, 4004, 4006, 4008, 4010, 4012, 4014, 4016, 4018, 4020] (by decide +kernel) (by decide +kernel)
theorem in_X6 : ∀ w ∈ wsX60, w ∈ lw_all := lw_in wsX60 [3123, 3125, 3127, 3129, 3131, 3133, 3135] (by decide +kernel) (by decide +kernel)
theorem in_X7 : ∀ w ∈ wsX70, w ∈ lw_all := lw_in wsX70 [3156, 3157, 3158, 3159, 3160, 3178, 3174, 3176] (by decide +kernel) (by decide +kernel)
theorem in_X8 : ∀ w ∈ wsX80, w ∈ lw_all := lw_in wsX80 [2233, 2235, 2237, 2239, 2241, 2243, 2245, 2247, 2249] (by decide +kernel) (by decide +kernel)
theorem in_X9 : ∀ w ∈ wsX90, w ∈ lw_all := lw_in wsX90 [1612, 1614] (by decide +kernel) (by decide +kernel)
theorem in_J17 : ∀ w ∈ wsJ170, w ∈ lw_all := lw_in wsJ170 [2279] (by decide +kernel) (by decide +kernel)
theorem in_J2 : ∀ w ∈ wsJ20, w ∈ lw_all := lw_in wsJ20 [596, 592, 594] (by decide +kernel) (by decide +kernel)
theorem in_J20 : ∀ w ∈ wsJ200, w ∈ lw_all := lw_in wsJ200 [1181] (by decide +kernel) (by decide +kernel)
theorem in_J22 : ∀ w ∈ wsJ220, w ∈ lw_all := lw_in wsJ220 [1196, 1197, 1190, 1191, 1192, 1193, 1194, 1195] (by decide +kernel) (by decide +kernel)
theorem in_J23 : ∀ w ∈ wsJ230, w ∈ lw_all := lw_in wsJ230 [1175, 1177, 1163, 1165, 1167, 1169, 1171, 1173, 1155, 1157, 1159, 1161] (by decide +kernel) (by decide +kernel)
theorem in_J25 : ∀ w ∈ wsJ250, w ∈ lw_all := lw_in wsJ250 [655, 657] (by decide +kernel) (by decide +kernel)
theorem in_J28 : ∀ w ∈ wsJ280, w ∈ lw_all := lw_in wsJ280 [947, 948, 949, 950, 951, 1082] (by decide +kernel) (by decide +kernel)
theorem in_J29 : ∀ w ∈ wsJ290, w ∈ lw_all := lw_in wsJ290 [1096, 1097, 1098, 1099, 1100, 1119] (by decide +kernel) (by decide +kernel)
theorem in_J3 : ∀ w ∈ wsJ30, w ∈ lw_all := lw_in wsJ30 [276, 278, 280, 282, 284] (by decide +kernel) (by decide +kernel)
theorem in_J31 : ∀ w ∈ wsJ310, w ∈ lw_all := lw_in wsJ310 [1450, 1452, 1454] (by decide +kernel) (by decide +kernel)
theorem in_J33 : ∀ w ∈ wsJ330, w ∈ lw_all := lw_in wsJ330 [2059, 2061, 2063, 2065] (by decide +kernel) (by decide +kernel)
theorem in_J36 : ∀ w ∈ wsJ360, w ∈ lw_all := lw_in wsJ360 [2700, 2701, 2702, 2703] (by decide +kernel) (by decide +kernel)
theorem in_J37 : ∀ w ∈ wsJ370, w ∈ lw_all := lw_in wsJ370 [2684, 2686, 2688, 2690, 2680, 2682] (by decide +kernel) (by decide +kernel)
theorem in_J38 : ∀ w ∈ wsJ380, w ∈ lw_all := lw_in wsJ380 [2770, 2771, 2772, 2773, 2768, 2769, 2758, 2760, 2762, 2764, 2766] (by decide +kernel) (by decide +kernel)
theorem in_J39 : ∀ w ∈ wsJ390, w ∈ lw_all := lw_in wsJ390 [2418, 2420, 2422, 2424] (by decide +kernel) (by decide +kernel)
theorem in_J41 : ∀ w ∈ wsJ410, w ∈ lw_all := lw_in wsJ410 [2449, 2451, 2453, 2455, 2457] (by decide +kernel) (by decide +kernel)
theorem in_J42 : ∀ w ∈ wsJ420, w ∈ lw_all := lw_in wsJ420 [2472, 2473, 2474, 2475, 2476] (by decide +kernel) (by decide +kernel)
theorem in_J44 : ∀ w ∈ wsJ440, w ∈ lw_all := lw_in wsJ440 [2498, 2500, 2502, 2504, 2506] (by decide +kernel) (by decide +kernel)
theorem in_J45 : ∀ w ∈ wsJ450, w ∈ lw_all := lw_in wsJ450 [2521, 2522, 2523, 2524, 2525] (by decide +kernel) (by decide +kernel)
theorem in_J46 : ∀ w ∈ wsJ460, w ∈ lw_all := lw_in wsJ460 [2566] (by decide +kernel) (by decide +kernel)
theorem in_J47 : ∀ w ∈ wsJ470, w ∈ lw_all := lw_in wsJ470 [2552, 2554] (by decide +kernel) (by decide +kernel)
theorem in_J49 : ∀ w ∈ wsJ490, w ∈ lw_all := lw_in wsJ490 [2881] (by decide +kernel) (by decide +kernel)
theorem in_J50 : ∀ w ∈ wsJ500, w ∈ lw_all := lw_in wsJ500 [2901, 2903] (by decide +kernel) (by decide +kernel)
theorem in_J51 : ∀ w ∈ wsJ510, w ∈ lw_all := lw_in wsJ510 [3488, 3489, 3490, 3491, 3492, 3497] (by decide +kernel) (by decide +kernel)
theorem in_J52 : ∀ w ∈ wsJ520, w ∈ lw_all := lw_in wsJ520 [3006, 3007, 3008, 3009, 3010, 3021] (by decide +kernel) (by decide +kernel)
theorem in_J53 : ∀ w ∈ wsJ530, w ∈ lw_all := lw_in wsJ530 [2981, 2982, 2983, 2984, 2985, 2986] (by decide +kernel) (by decide +kernel)
theorem in_J6 : ∀ w ∈ wsJ60, w ∈ lw_all := lw_in wsJ60 [275, 277, 279, 281, 283, 553] (by decide +kernel) (by decide +kernel)
theorem in_J8 : ∀ w ∈ wsJ80, w ∈ lw_all := lw_in wsJ80 [332, 334, 336, 338] (by decide +kernel) (by decide +kernel)
theorem in_J9 : ∀ w ∈ wsJ90, w ∈ lw_all := lw_in wsJ90 [574, 576, 578, 580] (by decide +kernel) (by decide +kernel)
