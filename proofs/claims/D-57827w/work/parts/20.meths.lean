set_option maxRecDepth 100000
/-! THE WALKS, 1: the methods (printed by tools/gen_walk.py) -/
theorem sp_0 : zspell "EchoFair" 0 "state" "LEchoFair$State;" := ⟨rfl, rfl, Or.inl rfl⟩
theorem sp_1 : zspell "EchoFair" 1 "savedState" "LEchoFair$State;" := ⟨rfl, rfl, Or.inl rfl⟩
theorem sp_2 : zspell "EchoFair" 2 "history" "Ljava/util/ArrayDeque;" := ⟨rfl, rfl, Or.inl rfl⟩
theorem sp_3 : zspell "EchoFair" 3 "buffer" "[B" := ⟨rfl, rfl, Or.inl rfl⟩
theorem sp_4 : zspell "EchoFair" 4 "bufferLength" "I" := ⟨rfl, rfl, Or.inl rfl⟩
theorem sp_5 : zspell "EchoFair" 5 "errorCode" "I" := ⟨rfl, rfl, Or.inl rfl⟩
theorem sp_6 : zspell "EchoFair" 6 "errorPosition" "I" := ⟨rfl, rfl, Or.inl rfl⟩
theorem sp_7 : zspell "EchoFair" 7 "output" "Ljava/lang/StringBuilder;" := ⟨rfl, rfl, Or.inl rfl⟩
theorem sp_8 : zspell "EchoFair$State" 8 "season" "I" := ⟨rfl, rfl, Or.inl rfl⟩
theorem sp_9 : zspell "EchoFair$State" 9 "fogs" "[I" := ⟨rfl, rfl, Or.inl rfl⟩
theorem sp_10 : zspell "EchoFair$State" 10 "echoes" "Ljava/util/List;" := ⟨rfl, rfl, Or.inl rfl⟩
theorem sp_11 : zspell "EchoFair$State" 11 "valleys" "Ljava/util/List;" := ⟨rfl, rfl, Or.inl rfl⟩
theorem sp_12 : zspell "EchoFair$State" 12 "deserted" "Ljava/util/LinkedHashSet;" := ⟨rfl, rfl, Or.inl rfl⟩
theorem sp_13 : zspell "EchoFair$State" 13 "served" "Ljava/util/HashMap;" := ⟨rfl, rfl, Or.inl rfl⟩
theorem sp_14 : zspell "EchoFair$State" 14 "day" "I" := ⟨rfl, rfl, Or.inl rfl⟩
theorem sp_15 : zspell "EchoFair$State" 15 "start" "I" := ⟨rfl, rfl, Or.inl rfl⟩
theorem sp_16 : zspell "EchoFair$State" 16 "earned" "I" := ⟨rfl, rfl, Or.inl rfl⟩
theorem sp_17 : zspell "EchoFair$State" 17 "funds" "I" := ⟨rfl, rfl, Or.inl rfl⟩
theorem sp_18 : zspell "EchoFair$State" 18 "trained" "I" := ⟨rfl, rfl, Or.inl rfl⟩
theorem sp_19 : zspell "EchoFair$State" 19 "made" "I" := ⟨rfl, rfl, Or.inl rfl⟩
theorem sp_20 : zspell "EchoFair$State" 20 "ended" "I" := ⟨rfl, rfl, Or.inl rfl⟩
theorem sp_21 : zspell "EchoFair$Echo" 21 "name" "Ljava/lang/String;" := ⟨rfl, rfl, Or.inl rfl⟩
theorem sp_22 : zspell "EchoFair$Echo" 22 "delay" "I" := ⟨rfl, rfl, Or.inl rfl⟩
theorem sp_23 : zspell "EchoFair$Echo" 23 "reserve" "I" := ⟨rfl, rfl, Or.inl rfl⟩
theorem sp_24 : zspell "EchoFair$Echo" 24 "resistance" "I" := ⟨rfl, rfl, Or.inl rfl⟩
theorem sp_25 : zspell "EchoFair$Echo" 25 "repeats" "I" := ⟨rfl, rfl, Or.inl rfl⟩
theorem sp_26 : zspell "EchoFair$Echo" 26 "savings" "I" := ⟨rfl, rfl, Or.inl rfl⟩
theorem sp_27 : zspell "EchoFair$Echo" 27 "unpaid" "I" := ⟨rfl, rfl, Or.inl rfl⟩
theorem sp_28 : zspell "EchoFair$Echo" 28 "employer" "I" := ⟨rfl, rfl, Or.inl rfl⟩
theorem sp_29 : zspell "EchoFair$Echo" 29 "desertions" "I" := ⟨rfl, rfl, Or.inl rfl⟩
theorem sp_30 : zspell "EchoFair$Valley" 30 "name" "Ljava/lang/String;" := ⟨rfl, rfl, Or.inl rfl⟩
theorem sp_31 : zspell "EchoFair$Valley" 31 "width" "I" := ⟨rfl, rfl, Or.inl rfl⟩
theorem sp_32 : zspell "EchoFair$Valley" 32 "posts" "I" := ⟨rfl, rfl, Or.inl rfl⟩
theorem sp_33 : zspell "EchoFair$Valley" 33 "tested" "[Z" := ⟨rfl, rfl, Or.inl rfl⟩
theorem sp_34 : zspell "EchoFair$Valley" 34 "staff" "[I" := ⟨rfl, rfl, Or.inl rfl⟩
theorem sp_35 : zspell "EchoFair$Valley" 35 "wage" "I" := ⟨rfl, rfl, Or.inl rfl⟩
theorem sp_36 : zspell "EchoFair$Valley" 36 "purse" "I" := ⟨rfl, rfl, Or.inl rfl⟩
theorem sp_37 : zspell "EchoFair$Valley" 37 "staffCount" "I" := ⟨rfl, rfl, Or.inl rfl⟩
theorem sp_38 : zspell "EchoFair$Valley" 38 "replies" "I" := ⟨rfl, rfl, Or.inl rfl⟩
theorem sp_39 : zspell "EchoFair$Valley" 39 "paid" "I" := ⟨rfl, rfl, Or.inl rfl⟩
theorem sp_40 : zspell "EchoFairModel" 40 "s" "[I" := ⟨rfl, rfl, Or.inl rfl⟩
theorem sp_41 : zspell "EchoFairModel" 41 "saved" "[I" := ⟨rfl, rfl, Or.inl rfl⟩
theorem sp_42 : zspell "EchoFairModel" 42 "held" "[I" := ⟨rfl, rfl, Or.inl rfl⟩
theorem sp_43 : zspell "EchoFairModel" 43 "aside" "[I" := ⟨rfl, rfl, Or.inl rfl⟩
theorem sp_44 : zspell "EchoFairModel" 44 "past" "[I" := ⟨rfl, rfl, Or.inl rfl⟩
theorem sp_45 : zspell "EchoFairModel" 45 "pastMany" "I" := ⟨rfl, rfl, Or.inl rfl⟩
theorem sp_46 : zspell "EchoFairModel" 46 "thrown" "I" := ⟨rfl, rfl, Or.inl rfl⟩
theorem sp_47 : zspell "EchoFairModel" 47 "isSaved" "Z" := ⟨rfl, rfl, Or.inl rfl⟩
theorem sp_48 : zspell "EchoFairModel" 48 "queue" "[I" := ⟨rfl, rfl, Or.inl rfl⟩
theorem sp_49 : zspell "EchoFairModel" 49 "kept" "[I" := ⟨rfl, rfl, Or.inl rfl⟩
theorem sp_50 : zspell "EchoFairModel" 50 "keptMany" "[I" := ⟨rfl, rfl, Or.inl rfl⟩
theorem sp_51 : zspell "EchoFairModel" 51 "hasApplied" "[Z" := ⟨rfl, rfl, Or.inl rfl⟩
theorem sp_52 : zspell "EchoFairModel" 52 "queueFrom" "I" := ⟨rfl, rfl, Or.inl rfl⟩
theorem sp_53 : zspell "EchoFairModel" 53 "queueMany" "I" := ⟨rfl, rfl, Or.inl rfl⟩
theorem sp_54 : zspell "EchoFairModel" 54 "answer" "I" := ⟨rfl, rfl, Or.inl rfl⟩
theorem sp_55 : zspell "EchoFairModel" 55 "buffer" "[I" := ⟨rfl, rfl, Or.inl rfl⟩
theorem sp_56 : zspell "EchoFairModel" 56 "length" "I" := ⟨rfl, rfl, Or.inl rfl⟩
theorem sp_57 : zspell "EchoFairModel" 57 "at" "I" := ⟨rfl, rfl, Or.inl rfl⟩
theorem sp_58 : zspell "EchoFairModel" 58 "begin" "I" := ⟨rfl, rfl, Or.inl rfl⟩
theorem sp_59 : zspell "EchoFairModel" 59 "wordLong" "I" := ⟨rfl, rfl, Or.inl rfl⟩
theorem sp_60 : zspell "EchoFairModel" 60 "error" "I" := ⟨rfl, rfl, Or.inl rfl⟩
theorem sp_61 : zspell "EchoFairModel" 61 "errorAt" "I" := ⟨rfl, rfl, Or.inl rfl⟩
theorem sp_62 : zspell "EchoFairModel" 62 "toldError" "I" := ⟨rfl, rfl, Or.inl rfl⟩
theorem sp_63 : zspell "EchoFairModel" 63 "toldAt" "I" := ⟨rfl, rfl, Or.inl rfl⟩
theorem sp_64 : zspell "EchoFairModel" 64 "told" "[I" := ⟨rfl, rfl, Or.inl rfl⟩
theorem sp_65 : zspell "EchoFairModel" 65 "toldMany" "I" := ⟨rfl, rfl, Or.inl rfl⟩
theorem sp_66 : zspell "EchoFairModel" 66 "output" "[I" := ⟨rfl, rfl, Or.inl rfl⟩
theorem sp_67 : zspell "EchoFairModel" 67 "outputLong" "I" := ⟨rfl, rfl, Or.inl rfl⟩
theorem sp_68 : zspell "EchoFair$Parser" 68 "end" "I" := ⟨rfl, rfl, Or.inl rfl⟩
theorem sp_69 : zspell "EchoFair$Parser" 69 "position" "I" := ⟨rfl, rfl, Or.inl rfl⟩
theorem sp_70 : zspell "EchoFair$Parser" 70 "start" "I" := ⟨rfl, rfl, Or.inl rfl⟩
theorem sp_71 : zspell "EchoFair$Parser" 71 "value" "I" := ⟨rfl, rfl, Or.inl rfl⟩
theorem sp_72 : zspell "EchoFair$Parser" 72 "word" "Ljava/lang/String;" := ⟨rfl, rfl, Or.inl rfl⟩
theorem sp_73 : zspell "EchoFair$Parser" 73 "kind" "LEchoFair$TokenKind;" := ⟨rfl, rfl, Or.inl rfl⟩
theorem sp_74 : zspell "EchoFair$Parser" 74 "this$0" "LEchoFair;" := ⟨rfl, rfl, Or.inl rfl⟩
theorem sp_75 : zspell "java/lang/Throwable" 75 "cause" "Ljava/lang/Throwable;" := ⟨rfl, rfl, Or.inl rfl⟩
theorem sp_76 : zspell "java/lang/Throwable" 76 "stackTrace" "[Ljava/lang/StackTraceElement;" := ⟨rfl, rfl, Or.inl rfl⟩
theorem sp_77 : zspell "java/lang/Throwable" 77 "suppressedExceptions" "Ljava/util/List;" := ⟨rfl, rfl, Or.inl rfl⟩
theorem sp_78 : zspell "java/lang/Throwable" 78 "detailMessage" "Ljava/lang/String;" := ⟨rfl, rfl, Or.inl rfl⟩
theorem sp_79 : zspell "java/lang/Throwable" 79 "backtrace" "Ljava/lang/Object;" := ⟨rfl, rfl, Or.inl rfl⟩
theorem sp_80 : zspell "java/lang/Throwable" 80 "depth" "I" := ⟨rfl, rfl, Or.inl rfl⟩
theorem sp_81 : zspell "EchoFair$ParseError" 81 "code" "I" := ⟨rfl, rfl, Or.inl rfl⟩
theorem sp_82 : zspell "EchoFair$ParseError" 82 "position" "I" := ⟨rfl, rfl, Or.inl rfl⟩
theorem sp_83 : zspell "EchoFair$Matching" 83 "state" "LEchoFair$State;" := ⟨rfl, rfl, Or.inl rfl⟩
theorem sp_84 : zspell "EchoFair$Matching" 84 "echoes" "I" := ⟨rfl, rfl, Or.inl rfl⟩
theorem sp_85 : zspell "EchoFair$Matching" 85 "valleys" "I" := ⟨rfl, rfl, Or.inl rfl⟩
theorem sp_86 : zspell "EchoFair$Matching" 86 "scores" "[I" := ⟨rfl, rfl, Or.inl rfl⟩
theorem sp_87 : zspell "EchoFair$Matching" 87 "wages" "[I" := ⟨rfl, rfl, Or.inl rfl⟩
theorem sp_88 : zspell "EchoFair$Matching" 88 "kept" "[I" := ⟨rfl, rfl, Or.inl rfl⟩
theorem sp_89 : zspell "EchoFair$Matching" 89 "keptCount" "[I" := ⟨rfl, rfl, Or.inl rfl⟩
theorem sp_90 : zspell "EchoFair$Matching" 90 "barred" "[Z" := ⟨rfl, rfl, Or.inl rfl⟩
theorem sp_91 : zspell "EchoFair$Matching" 91 "closed" "[Z" := ⟨rfl, rfl, Or.inl rfl⟩
theorem sp_92 : zspell "EchoFair$Pair" 92 "valley" "I" := ⟨rfl, rfl, Or.inl rfl⟩
theorem sp_93 : zspell "EchoFair$Pair" 93 "echo" "I" := ⟨rfl, rfl, Or.inl rfl⟩
theorem sp_94 : zspell "java/util/AbstractList" 94 "modCount" "I" := ⟨rfl, rfl, Or.inl rfl⟩
theorem sp_95 : zspell "java/util/ArrayList" 95 "elementData" "[Ljava/lang/Object;" := ⟨rfl, rfl, Or.inl rfl⟩
theorem sp_96 : zspell "java/util/ArrayList" 96 "size" "I" := ⟨rfl, rfl, Or.inl rfl⟩
theorem sp_97 : zspell "java/util/ArrayList$Itr" 97 "cursor" "I" := ⟨rfl, rfl, Or.inl rfl⟩
theorem sp_98 : zspell "java/util/ArrayList$Itr" 98 "lastRet" "I" := ⟨rfl, rfl, Or.inl rfl⟩
theorem sp_99 : zspell "java/util/ArrayList$Itr" 99 "expectedModCount" "I" := ⟨rfl, rfl, Or.inl rfl⟩
theorem sp_100 : zspell "java/util/ArrayList$Itr" 100 "this$0" "Ljava/util/ArrayList;" := ⟨rfl, rfl, Or.inl rfl⟩
theorem sp_101 : zspell "java/util/ArrayDeque" 101 "elements" "[Ljava/lang/Object;" := ⟨rfl, rfl, Or.inl rfl⟩
theorem sp_102 : zspell "java/util/ArrayDeque" 102 "head" "I" := ⟨rfl, rfl, Or.inl rfl⟩
theorem sp_103 : zspell "java/util/ArrayDeque" 103 "tail" "I" := ⟨rfl, rfl, Or.inl rfl⟩
theorem sp_104 : zspell "java/util/HashSet" 104 "map" "Ljava/util/HashMap;" := ⟨rfl, rfl, Or.inl rfl⟩
theorem sp_105 : zspell "java/util/AbstractMap" 105 "keySet" "Ljava/util/Set;" := ⟨rfl, rfl, Or.inl rfl⟩
theorem sp_106 : zspell "java/util/AbstractMap" 106 "values" "Ljava/util/Collection;" := ⟨rfl, rfl, Or.inl rfl⟩
theorem sp_107 : zspell "java/util/HashMap" 107 "table" "[Ljava/util/HashMap$Node;" := ⟨rfl, rfl, Or.inl rfl⟩
theorem sp_108 : zspell "java/util/HashMap" 108 "entrySet" "Ljava/util/Set;" := ⟨rfl, rfl, Or.inl rfl⟩
theorem sp_109 : zspell "java/util/HashMap" 109 "size" "I" := ⟨rfl, rfl, Or.inl rfl⟩
theorem sp_110 : zspell "java/util/HashMap" 110 "modCount" "I" := ⟨rfl, rfl, Or.inl rfl⟩
theorem sp_111 : zspell "java/util/HashMap" 111 "threshold" "I" := ⟨rfl, rfl, Or.inl rfl⟩
theorem sp_112 : zspell "java/util/HashMap" 112 "loadFactor" "F" := ⟨rfl, rfl, Or.inl rfl⟩
theorem sp_113 : zspell "java/util/LinkedHashMap" 113 "head" "Ljava/util/LinkedHashMap$Entry;" := ⟨rfl, rfl, Or.inl rfl⟩
theorem sp_114 : zspell "java/util/LinkedHashMap" 114 "tail" "Ljava/util/LinkedHashMap$Entry;" := ⟨rfl, rfl, Or.inl rfl⟩
theorem sp_115 : zspell "java/util/LinkedHashMap" 115 "accessOrder" "Z" := ⟨rfl, rfl, Or.inl rfl⟩
theorem sp_116 : zspell "java/util/LinkedHashMap" 116 "putMode" "I" := ⟨rfl, rfl, Or.inl rfl⟩
theorem sp_117 : zspell "java/util/HashMap$Node" 117 "hash" "I" := ⟨rfl, rfl, Or.inl rfl⟩
theorem sp_118 : zspell "java/util/HashMap$Node" 118 "key" "Ljava/lang/Object;" := ⟨rfl, rfl, Or.inl rfl⟩
theorem sp_119 : zspell "java/util/HashMap$Node" 119 "value" "Ljava/lang/Object;" := ⟨rfl, rfl, Or.inl rfl⟩
theorem sp_120 : zspell "java/util/HashMap$Node" 120 "next" "Ljava/util/HashMap$Node;" := ⟨rfl, rfl, Or.inl rfl⟩
theorem sp_121 : zspell "java/util/LinkedHashMap$Entry" 121 "before" "Ljava/util/LinkedHashMap$Entry;" := ⟨rfl, rfl, Or.inl rfl⟩
theorem sp_122 : zspell "java/util/LinkedHashMap$Entry" 122 "after" "Ljava/util/LinkedHashMap$Entry;" := ⟨rfl, rfl, Or.inl rfl⟩
theorem sp_123 : zspell "java/util/HashMap$EntrySet" 123 "this$0" "Ljava/util/HashMap;" := ⟨rfl, rfl, Or.inl rfl⟩
theorem sp_124 : zspell "java/util/HashMap$HashIterator" 124 "next" "Ljava/util/HashMap$Node;" := ⟨rfl, rfl, Or.inl rfl⟩
theorem sp_125 : zspell "java/util/HashMap$HashIterator" 125 "current" "Ljava/util/HashMap$Node;" := ⟨rfl, rfl, Or.inl rfl⟩
theorem sp_126 : zspell "java/util/HashMap$HashIterator" 126 "expectedModCount" "I" := ⟨rfl, rfl, Or.inl rfl⟩
theorem sp_127 : zspell "java/util/HashMap$HashIterator" 127 "index" "I" := ⟨rfl, rfl, Or.inl rfl⟩
theorem sp_128 : zspell "java/util/HashMap$HashIterator" 128 "this$0" "Ljava/util/HashMap;" := ⟨rfl, rfl, Or.inl rfl⟩
theorem sp_129 : zspell "java/util/LinkedHashMap$LinkedKeySet" 129 "reversed" "Z" := ⟨rfl, rfl, Or.inl rfl⟩
theorem sp_130 : zspell "java/util/LinkedHashMap$LinkedKeySet" 130 "this$0" "Ljava/util/LinkedHashMap;" := ⟨rfl, rfl, Or.inl rfl⟩
theorem sp_131 : zspell "java/util/LinkedHashMap$LinkedHashIterator" 131 "next" "Ljava/util/LinkedHashMap$Entry;" := ⟨rfl, rfl, Or.inl rfl⟩
theorem sp_132 : zspell "java/util/LinkedHashMap$LinkedHashIterator" 132 "current" "Ljava/util/LinkedHashMap$Entry;" := ⟨rfl, rfl, Or.inl rfl⟩
theorem sp_133 : zspell "java/util/LinkedHashMap$LinkedHashIterator" 133 "expectedModCount" "I" := ⟨rfl, rfl, Or.inl rfl⟩
theorem sp_134 : zspell "java/util/LinkedHashMap$LinkedHashIterator" 134 "reversed" "Z" := ⟨rfl, rfl, Or.inl rfl⟩
theorem sp_135 : zspell "java/util/LinkedHashMap$LinkedHashIterator" 135 "this$0" "Ljava/util/LinkedHashMap;" := ⟨rfl, rfl, Or.inl rfl⟩
theorem sp_136 : zspell "java/lang/AbstractStringBuilder" 136 "value" "[B" := ⟨rfl, rfl, Or.inl rfl⟩
theorem sp_137 : zspell "java/lang/AbstractStringBuilder" 137 "coder" "B" := ⟨rfl, rfl, Or.inl rfl⟩
theorem sp_138 : zspell "java/lang/AbstractStringBuilder" 138 "maybeLatin1" "Z" := ⟨rfl, rfl, Or.inl rfl⟩
theorem sp_139 : zspell "java/lang/AbstractStringBuilder" 139 "count" "I" := ⟨rfl, rfl, Or.inl rfl⟩
theorem sp_140 : zspell "java/lang/String" 140 "value" "[B" := ⟨rfl, rfl, Or.inl rfl⟩
theorem sp_141 : zspell "java/lang/String" 141 "coder" "B" := ⟨rfl, rfl, Or.inl rfl⟩
theorem sp_142 : zspell "java/lang/String" 142 "hash" "I" := ⟨rfl, rfl, Or.inl rfl⟩
theorem sp_143 : zspell "java/lang/String" 143 "hashIsZero" "Z" := ⟨rfl, rfl, Or.inl rfl⟩
theorem sp_144 : zspell "java/lang/Integer" 144 "value" "I" := ⟨rfl, rfl, Or.inl rfl⟩
def Y_X1_appendWords : ZY := (yX1_appendWords, cX1_appendWords, 7, none, none, 1)
theorem K_X1_appendWords : zyc Y_X1_appendWords 1 := ⟨show zcw Y_X1_appendWords ∈ lw_all from q3059, q163, by decide +kernel, ⟨by decide, by decide⟩, Nat.le_of_ble_eq_true rfl⟩
theorem KS_X1_appendWords : (parseMethodDescriptor (zyn Y_X1_appendWords).desc).isSome = true := by decide +kernel
theorem KI_X1_appendWords : Cond.instanceMethod (zyn Y_X1_appendWords) ∈ lw_all := q3058
def Y_X1_checkState : ZY := (yX1_checkState, cX1_checkState, 1, none, none, 6)
theorem K_X1_checkState : zyc Y_X1_checkState 1 := ⟨show zcw Y_X1_checkState ∈ lw_all from q3044, q163, by decide +kernel, ⟨by decide, by decide⟩, Nat.le_of_ble_eq_true rfl⟩
theorem KS_X1_checkState : (parseMethodDescriptor (zyn Y_X1_checkState).desc).isSome = true := by decide +kernel
theorem KT_X1_checkState : Cond.static (zyn Y_X1_checkState) ∈ lw_all := q3043
def Y_X1_append : ZY := (yX1_append, cX1_append, 6, some (.int), none, 7)
theorem K_X1_append : zyc Y_X1_append 5 := ⟨show zcw Y_X1_append ∈ lw_all from q3041, q163, by decide +kernel, ⟨by decide, by decide⟩, Nat.le_of_ble_eq_true rfl⟩
theorem KS_X1_append : (parseMethodDescriptor (zyn Y_X1_append).desc).isSome = true := by decide +kernel
theorem KI_X1_append : Cond.instanceMethod (zyn Y_X1_append) ∈ lw_all := q3039
def Y_X0_append : ZY := (yX0_append, cX0_append, 8, some (.int), (some [(0, 16, 19, 13)]), 8)
theorem K_X0_append : zyc Y_X0_append 7 := ⟨show zcw Y_X0_append ∈ lw_all from q3036, q162, by decide +kernel, ⟨by decide, by decide⟩, Nat.le_of_ble_eq_true rfl⟩
theorem KS_X0_append : (parseMethodDescriptor (zyn Y_X0_append).desc).isSome = true := by decide +kernel
theorem KT_X0_append : Cond.static (zyn Y_X0_append) ∈ lw_all := q3035
def Y_X1_checkArgument : ZY := (yX1_checkArgument, cX1_checkArgument, 1, none, none, 6)
theorem K_X1_checkArgument : zyc Y_X1_checkArgument 1 := ⟨show zcw Y_X1_checkArgument ∈ lw_all from q3070, q163, by decide +kernel, ⟨by decide, by decide⟩, Nat.le_of_ble_eq_true rfl⟩
theorem KS_X1_checkArgument : (parseMethodDescriptor (zyn Y_X1_checkArgument).desc).isSome = true := by decide +kernel
theorem KT_X1_checkArgument : Cond.static (zyn Y_X1_checkArgument) ∈ lw_all := q3069
def Y_X1_inRange : ZY := (yX1_inRange, cX1_inRange, 6, some (.boolean), none, 1)
theorem K_X1_inRange : zyc Y_X1_inRange 3 := ⟨show zcw Y_X1_inRange ∈ lw_all from q1532, q163, by decide +kernel, ⟨by decide, by decide⟩, Nat.le_of_ble_eq_true rfl⟩
theorem KS_X1_inRange : (parseMethodDescriptor (zyn Y_X1_inRange).desc).isSome = true := by decide +kernel
theorem KT_X1_inRange : Cond.static (zyn Y_X1_inRange) ∈ lw_all := q1531
def Y_X1_truncate : ZY := (yX1_truncate, cX1_truncate, 2, some (.int), none, 7)
theorem K_X1_truncate : zyc Y_X1_truncate 1 := ⟨show zcw Y_X1_truncate ∈ lw_all from q3067, q163, by decide +kernel, ⟨by decide, by decide⟩, Nat.le_of_ble_eq_true rfl⟩
theorem KS_X1_truncate : (parseMethodDescriptor (zyn Y_X1_truncate).desc).isSome = true := by decide +kernel
theorem KI_X1_truncate : Cond.instanceMethod (zyn Y_X1_truncate) ∈ lw_all := q3065
def Y_X0_truncate : ZY := (yX0_truncate, cX0_truncate, 4, some (.int), (some [(0, 9, 12, 19)]), 8)
theorem K_X0_truncate : zyc Y_X0_truncate 3 := ⟨show zcw Y_X0_truncate ∈ lw_all from q3062, q162, by decide +kernel, ⟨by decide, by decide⟩, Nat.le_of_ble_eq_true rfl⟩
theorem KS_X0_truncate : (parseMethodDescriptor (zyn Y_X0_truncate).desc).isSome = true := by decide +kernel
theorem KT_X0_truncate : Cond.static (zyn Y_X0_truncate) ∈ lw_all := q3061
def Y_X6_byteAt : ZY := (yX6_byteAt, cX6_byteAt, 2, some (.int), none, 1)
theorem K_X6_byteAt : zyc Y_X6_byteAt 1 := ⟨show zcw Y_X6_byteAt ∈ lw_all from q3098, q201, by decide +kernel, ⟨by decide, by decide⟩, Nat.le_of_ble_eq_true rfl⟩
theorem KS_X6_byteAt : (parseMethodDescriptor (zyn Y_X6_byteAt).desc).isSome = true := by decide +kernel
theorem KI_X6_byteAt : Cond.instanceMethod (zyn Y_X6_byteAt) ∈ lw_all := q3097
def Y_J7_init : ZY := (yJ7_init, cJ7_init, 2, none, none, 1)
theorem K_J7_init : zyc Y_J7_init 1 := ⟨show zcw Y_J7_init ∈ lw_all from q316, q172, by decide +kernel, ⟨by decide, by decide⟩, Nat.le_of_ble_eq_true rfl⟩
theorem KS_J7_init : (parseMethodDescriptor (zyn Y_J7_init).desc).isSome = true := by decide +kernel
theorem KI_J7_init : Cond.instanceMethod (zyn Y_J7_init) ∈ lw_all := q315
def Y_J8_init : ZY := (yJ8_init, cJ8_init, 1, none, none, 2)
theorem K_J8_init : zyc Y_J8_init 0 := ⟨show zcw Y_J8_init ∈ lw_all from q313, q173, by decide +kernel, ⟨by decide, by decide⟩, Nat.le_of_ble_eq_true rfl⟩
theorem KS_J8_init : (parseMethodDescriptor (zyn Y_J8_init).desc).isSome = true := by decide +kernel
theorem KI_J8_init : Cond.instanceMethod (zyn Y_J8_init) ∈ lw_all := q312
def Y_J12_max : ZY := (yJ12_max, cJ12_max, 2, some (.int), none, 1)
theorem K_J12_max : zyc Y_J12_max 2 := ⟨show zcw Y_J12_max ∈ lw_all from q368, q177, by decide +kernel, ⟨by decide, by decide⟩, Nat.le_of_ble_eq_true rfl⟩
theorem KS_J12_max : (parseMethodDescriptor (zyn Y_J12_max).desc).isSome = true := by decide +kernel
theorem KT_J12_max : Cond.static (zyn Y_J12_max) ∈ lw_all := q367
def Y_J11_newLength : ZY := (yJ11_newLength, cJ11_newLength, 4, some (.int), none, 2)
theorem K_J11_newLength : zyc Y_J11_newLength 3 := ⟨show zcw Y_J11_newLength ∈ lw_all from q365, q176, by decide +kernel, ⟨by decide, by decide⟩, Nat.le_of_ble_eq_true rfl⟩
theorem KS_J11_newLength : (parseMethodDescriptor (zyn Y_J11_newLength).desc).isSome = true := by decide +kernel
theorem KT_J11_newLength : Cond.static (zyn Y_J11_newLength) ∈ lw_all := q364
def Y_J7_newCapacity : ZY := (yJ7_newCapacity, cJ7_newCapacity, 6, some (.int), none, 3)
theorem K_J7_newCapacity : zyc Y_J7_newCapacity 1 := ⟨show zcw Y_J7_newCapacity ∈ lw_all from q362, q172, by decide +kernel, ⟨by decide, by decide⟩, Nat.le_of_ble_eq_true rfl⟩
theorem KS_J7_newCapacity : (parseMethodDescriptor (zyn Y_J7_newCapacity).desc).isSome = true := by decide +kernel
theorem KI_J7_newCapacity : Cond.instanceMethod (zyn Y_J7_newCapacity) ∈ lw_all := q361
def Y_J12_min : ZY := (yJ12_min, cJ12_min, 2, some (.int), none, 1)
theorem K_J12_min : zyc Y_J12_min 2 := ⟨show zcw Y_J12_min ∈ lw_all from q386, q177, by decide +kernel, ⟨by decide, by decide⟩, Nat.le_of_ble_eq_true rfl⟩
theorem KS_J12_min : (parseMethodDescriptor (zyn Y_J12_min).desc).isSome = true := by decide +kernel
theorem KT_J12_min : Cond.static (zyn Y_J12_min) ∈ lw_all := q385
def Y_J13_copyOf : ZY := (yJ13_copyOf, cJ13_copyOf, 3, some (.array (.byte)), none, 2)
theorem K_J13_copyOf : zyc Y_J13_copyOf 2 := ⟨show zcw Y_J13_copyOf ∈ lw_all from q376, q178, by decide +kernel, ⟨by decide, by decide⟩, Nat.le_of_ble_eq_true rfl⟩
theorem KS_J13_copyOf : (parseMethodDescriptor (zyn Y_J13_copyOf).desc).isSome = true := by decide +kernel
theorem KT_J13_copyOf : Cond.static (zyn Y_J13_copyOf) ∈ lw_all := q375
def Y_J7_ensureCapacityInternal : ZY := (yJ7_ensureCapacityInternal, cJ7_ensureCapacityInternal, 3, none, none, 4)
theorem K_J7_ensureCapacityInternal : zyc Y_J7_ensureCapacityInternal 1 := ⟨show zcw Y_J7_ensureCapacityInternal ∈ lw_all from q358, q172, by decide +kernel, ⟨by decide, by decide⟩, Nat.le_of_ble_eq_true rfl⟩
theorem KS_J7_ensureCapacityInternal : (parseMethodDescriptor (zyn Y_J7_ensureCapacityInternal).desc).isSome = true := by decide +kernel
theorem KI_J7_ensureCapacityInternal : Cond.instanceMethod (zyn Y_J7_ensureCapacityInternal) ∈ lw_all := q357
def Y_J7_isLatin1 : ZY := (yJ7_isLatin1, cJ7_isLatin1, 1, some (.boolean), none, 1)
theorem K_J7_isLatin1 : zyc Y_J7_isLatin1 0 := ⟨show zcw Y_J7_isLatin1 ∈ lw_all from q394, q172, by decide +kernel, ⟨by decide, by decide⟩, Nat.le_of_ble_eq_true rfl⟩
theorem KS_J7_isLatin1 : (parseMethodDescriptor (zyn Y_J7_isLatin1).desc).isSome = true := by decide +kernel
theorem KI_J7_isLatin1 : Cond.instanceMethod (zyn Y_J7_isLatin1) ∈ lw_all := q391
def Y_J15_canEncode : ZY := (yJ15_canEncode, cJ15_canEncode, 1, some (.boolean), none, 1)
theorem K_J15_canEncode : zyc Y_J15_canEncode 1 := ⟨show zcw Y_J15_canEncode ∈ lw_all from q771, q181, by decide +kernel, ⟨by decide, by decide⟩, Nat.le_of_ble_eq_true rfl⟩
theorem KS_J15_canEncode : (parseMethodDescriptor (zyn Y_J15_canEncode).desc).isSome = true := by decide +kernel
theorem KT_J15_canEncode : Cond.static (zyn Y_J15_canEncode) ∈ lw_all := q770
def Y_J7_append_5 : ZY := (yJ7_append_5, cJ7_append_5, 2, some (.object "java/lang/AbstractStringBuilder"), none, 5)
theorem K_J7_append_5 : zyc Y_J7_append_5 1 := ⟨show zcw Y_J7_append_5 ∈ lw_all from q801, q172, by decide +kernel, ⟨by decide, by decide⟩, Nat.le_of_ble_eq_true rfl⟩
theorem KS_J7_append_5 : (parseMethodDescriptor (zyn Y_J7_append_5).desc).isSome = true := by decide +kernel
theorem KI_J7_append_5 : Cond.instanceMethod (zyn Y_J7_append_5) ∈ lw_all := q800
def Y_J8_append_6 : ZY := (yJ8_append_6, cJ8_append_6, 2, some (.object "java/lang/StringBuilder"), none, 6)
theorem K_J8_append_6 : zyc Y_J8_append_6 1 := ⟨show zcw Y_J8_append_6 ∈ lw_all from q798, q173, by decide +kernel, ⟨by decide, by decide⟩, Nat.le_of_ble_eq_true rfl⟩
theorem KS_J8_append_6 : (parseMethodDescriptor (zyn Y_J8_append_6).desc).isSome = true := by decide +kernel
theorem KI_J8_append_6 : Cond.instanceMethod (zyn Y_J8_append_6) ∈ lw_all := q796
def Y_J7_getValue : ZY := (yJ7_getValue, cJ7_getValue, 1, some (.array (.byte)), none, 1)
theorem K_J7_getValue : zyc Y_J7_getValue 0 := ⟨show zcw Y_J7_getValue ∈ lw_all from q506, q172, by decide +kernel, ⟨by decide, by decide⟩, Nat.le_of_ble_eq_true rfl⟩
theorem KS_J7_getValue : (parseMethodDescriptor (zyn Y_J7_getValue).desc).isSome = true := by decide +kernel
theorem KI_J7_getValue : Cond.instanceMethod (zyn Y_J7_getValue) ∈ lw_all := q503
def Y_J7_length : ZY := (yJ7_length, cJ7_length, 1, some (.int), none, 1)
theorem K_J7_length : zyc Y_J7_length 0 := ⟨show zcw Y_J7_length ∈ lw_all from q514, q172, by decide +kernel, ⟨by decide, by decide⟩, Nat.le_of_ble_eq_true rfl⟩
theorem KS_J7_length : (parseMethodDescriptor (zyn Y_J7_length).desc).isSome = true := by decide +kernel
theorem KI_J7_length : Cond.instanceMethod (zyn Y_J7_length) ∈ lw_all := q508
def Y_J8_length : ZY := (yJ8_length, cJ8_length, 1, some (.int), none, 2)
theorem K_J8_length : zyc Y_J8_length 0 := ⟨show zcw Y_J8_length ∈ lw_all from q512, q173, by decide +kernel, ⟨by decide, by decide⟩, Nat.le_of_ble_eq_true rfl⟩
theorem KS_J8_length : (parseMethodDescriptor (zyn Y_J8_length).desc).isSome = true := by decide +kernel
theorem KI_J8_length : Cond.instanceMethod (zyn Y_J8_length) ∈ lw_all := q511
def Y_J13_checkLength : ZY := (yJ13_checkLength, cJ13_checkLength, 2, none, none, 1)
theorem K_J13_checkLength : zyc Y_J13_checkLength 2 := ⟨show zcw Y_J13_checkLength ∈ lw_all from q524, q178, by decide +kernel, ⟨by decide, by decide⟩, Nat.le_of_ble_eq_true rfl⟩
theorem KS_J13_checkLength : (parseMethodDescriptor (zyn Y_J13_checkLength).desc).isSome = true := by decide +kernel
theorem KT_J13_checkLength : Cond.static (zyn Y_J13_checkLength) ∈ lw_all := q523
def Y_J13_copyOfRangeByte : ZY := (yJ13_copyOfRangeByte, cJ13_copyOfRangeByte, 5, some (.array (.byte)), none, 2)
theorem K_J13_copyOfRangeByte : zyc Y_J13_copyOfRangeByte 3 := ⟨show zcw Y_J13_copyOfRangeByte ∈ lw_all from q521, q178, by decide +kernel, ⟨by decide, by decide⟩, Nat.le_of_ble_eq_true rfl⟩
theorem KS_J13_copyOfRangeByte : (parseMethodDescriptor (zyn Y_J13_copyOfRangeByte).desc).isSome = true := by decide +kernel
theorem KT_J13_copyOfRangeByte : Cond.static (zyn Y_J13_copyOfRangeByte) ∈ lw_all := q520
def Y_J13_copyOfRange : ZY := (yJ13_copyOfRange, cJ13_copyOfRange, 3, some (.array (.byte)), none, 3)
theorem K_J13_copyOfRange : zyc Y_J13_copyOfRange 3 := ⟨show zcw Y_J13_copyOfRange ∈ lw_all from q518, q178, by decide +kernel, ⟨by decide, by decide⟩, Nat.le_of_ble_eq_true rfl⟩
theorem KS_J13_copyOfRange : (parseMethodDescriptor (zyn Y_J13_copyOfRange).desc).isSome = true := by decide +kernel
theorem KT_J13_copyOfRange : Cond.static (zyn Y_J13_copyOfRange) ∈ lw_all := q517
def Y_J9_init_2 : ZY := (yJ9_init_2, cJ9_init_2, 5, none, none, 4)
theorem K_J9_init_2 : zyc Y_J9_init_2 2 := ⟨show zcw Y_J9_init_2 ∈ lw_all from q500, q174, by decide +kernel, ⟨by decide, by decide⟩, Nat.le_of_ble_eq_true rfl⟩
theorem KS_J9_init_2 : (parseMethodDescriptor (zyn Y_J9_init_2).desc).isSome = true := by decide +kernel
theorem KI_J9_init_2 : Cond.instanceMethod (zyn Y_J9_init_2) ∈ lw_all := q499
def Y_J9_init : ZY := (yJ9_init, cJ9_init, 2, none, none, 5)
theorem K_J9_init : zyc Y_J9_init 1 := ⟨show zcw Y_J9_init ∈ lw_all from q497, q174, by decide +kernel, ⟨by decide, by decide⟩, Nat.le_of_ble_eq_true rfl⟩
theorem KS_J9_init : (parseMethodDescriptor (zyn Y_J9_init).desc).isSome = true := by decide +kernel
theorem KI_J9_init : Cond.instanceMethod (zyn Y_J9_init) ∈ lw_all := q496
def Y_J8_toString : ZY := (yJ8_toString, cJ8_toString, 1, some (.object "java/lang/String"), none, 6)
theorem K_J8_toString : zyc Y_J8_toString 0 := ⟨show zcw Y_J8_toString ∈ lw_all from q492, q173, by decide +kernel, ⟨by decide, by decide⟩, Nat.le_of_ble_eq_true rfl⟩
theorem KS_J8_toString : (parseMethodDescriptor (zyn Y_J8_toString).desc).isSome = true := by decide +kernel
theorem KI_J8_toString : Cond.instanceMethod (zyn Y_J8_toString) ∈ lw_all := q490
def Y_X6_advance : ZY := (yX6_advance, cX6_advance, 3, none, none, 7)
theorem K_X6_advance : zyc Y_X6_advance 0 := ⟨show zcw Y_X6_advance ∈ lw_all from q3094, q201, by decide +kernel, ⟨by decide, by decide⟩, Nat.le_of_ble_eq_true rfl⟩
theorem KS_X6_advance : (parseMethodDescriptor (zyn Y_X6_advance).desc).isSome = true := by decide +kernel
theorem KI_X6_advance : Cond.instanceMethod (zyn Y_X6_advance) ∈ lw_all := q3092
def Y_X6_init : ZY := (yX6_init, cX6_init, 2, none, none, 8)
theorem K_X6_init : zyc Y_X6_init 1 := ⟨show zcw Y_X6_init ∈ lw_all from q3088, q201, by decide +kernel, ⟨by decide, by decide⟩, Nat.le_of_ble_eq_true rfl⟩
theorem KS_X6_init : (parseMethodDescriptor (zyn Y_X6_init).desc).isSome = true := by decide +kernel
theorem KI_X6_init : Cond.instanceMethod (zyn Y_X6_init) ∈ lw_all := q3087
def Y_J3_init_4 : ZY := (yJ3_init_4, cJ3_init_4, 5, none, none, 1)
theorem K_J3_init_4 : zyc Y_J3_init_4 4 := ⟨show zcw Y_J3_init_4 ∈ lw_all from q3169, q168, by decide +kernel, ⟨by decide, by decide⟩, Nat.le_of_ble_eq_true rfl⟩
theorem KS_J3_init_4 : (parseMethodDescriptor (zyn Y_J3_init_4).desc).isSome = true := by decide +kernel
theorem KI_J3_init_4 : Cond.instanceMethod (zyn Y_J3_init_4) ∈ lw_all := q3168
def Y_J4_init_4 : ZY := (yJ4_init_4, cJ4_init_4, 5, none, none, 2)
theorem K_J4_init_4 : zyc Y_J4_init_4 4 := ⟨show zcw Y_J4_init_4 ∈ lw_all from q3166, q169, by decide +kernel, ⟨by decide, by decide⟩, Nat.le_of_ble_eq_true rfl⟩
theorem KS_J4_init_4 : (parseMethodDescriptor (zyn Y_J4_init_4).desc).isSome = true := by decide +kernel
theorem KI_J4_init_4 : Cond.instanceMethod (zyn Y_J4_init_4) ∈ lw_all := q3165
def Y_X7_init : ZY := (yX7_init, cX7_init, 3, none, none, 3)
theorem K_X7_init : zyc Y_X7_init 2 := ⟨show zcw Y_X7_init ∈ lw_all from q3163, q204, by decide +kernel, ⟨by decide, by decide⟩, Nat.le_of_ble_eq_true rfl⟩
theorem KS_X7_init : (parseMethodDescriptor (zyn Y_X7_init).desc).isSome = true := by decide +kernel
theorem KI_X7_init : Cond.instanceMethod (zyn Y_X7_init) ∈ lw_all := q3162
def Y_X6_require : ZY := (yX6_require, cX6_require, 3, none, none, 4)
theorem K_X6_require : zyc Y_X6_require 2 := ⟨show zcw Y_X6_require ∈ lw_all from q3151, q201, by decide +kernel, ⟨by decide, by decide⟩, Nat.le_of_ble_eq_true rfl⟩
theorem KS_X6_require : (parseMethodDescriptor (zyn Y_X6_require).desc).isSome = true := by decide +kernel
theorem KI_X6_require : Cond.instanceMethod (zyn Y_X6_require) ∈ lw_all := q3150
def Y_J15_equals : ZY := (yJ15_equals, cJ15_equals, 3, some (.boolean), none, 1)
theorem K_J15_equals : zyc Y_J15_equals 2 := ⟨show zcw Y_J15_equals ∈ lw_all from q1554, q181, by decide +kernel, ⟨by decide, by decide⟩, Nat.le_of_ble_eq_true rfl⟩
theorem KS_J15_equals : (parseMethodDescriptor (zyn Y_J15_equals).desc).isSome = true := by decide +kernel
theorem KT_J15_equals : Cond.static (zyn Y_J15_equals) ∈ lw_all := q1553
def Y_J9_equals : ZY := (yJ9_equals, cJ9_equals, 3, some (.boolean), none, 2)
theorem K_J9_equals : zyc Y_J9_equals 1 := ⟨show zcw Y_J9_equals ∈ lw_all from q1550, q174, by decide +kernel, ⟨by decide, by decide⟩, Nat.le_of_ble_eq_true rfl⟩
theorem KS_J9_equals : (parseMethodDescriptor (zyn Y_J9_equals).desc).isSome = true := by decide +kernel
theorem KI_J9_equals : Cond.instanceMethod (zyn Y_J9_equals) ∈ lw_all := q1548
def Y_X6_keyword : ZY := (yX6_keyword, cX6_keyword, 2, none, none, 8)
theorem K_X6_keyword : zyc Y_X6_keyword 1 := ⟨show zcw Y_X6_keyword ∈ lw_all from q3146, q201, by decide +kernel, ⟨by decide, by decide⟩, Nat.le_of_ble_eq_true rfl⟩
theorem KS_X6_keyword : (parseMethodDescriptor (zyn Y_X6_keyword).desc).isSome = true := by decide +kernel
theorem KI_X6_keyword : Cond.instanceMethod (zyn Y_X6_keyword) ∈ lw_all := q3145
def Y_X6_peekNumber : ZY := (yX6_peekNumber, cX6_peekNumber, 3, some (.int), none, 5)
theorem K_X6_peekNumber : zyc Y_X6_peekNumber 2 := ⟨show zcw Y_X6_peekNumber ∈ lw_all from q3187, q201, by decide +kernel, ⟨by decide, by decide⟩, Nat.le_of_ble_eq_true rfl⟩
theorem KS_X6_peekNumber : (parseMethodDescriptor (zyn Y_X6_peekNumber).desc).isSome = true := by decide +kernel
theorem KI_X6_peekNumber : Cond.instanceMethod (zyn Y_X6_peekNumber) ∈ lw_all := q3186
def Y_X6_semicolon : ZY := (yX6_semicolon, cX6_semicolon, 1, none, none, 8)
theorem K_X6_semicolon : zyc Y_X6_semicolon 0 := ⟨show zcw Y_X6_semicolon ∈ lw_all from q3191, q201, by decide +kernel, ⟨by decide, by decide⟩, Nat.le_of_ble_eq_true rfl⟩
theorem KS_X6_semicolon : (parseMethodDescriptor (zyn Y_X6_semicolon).desc).isSome = true := by decide +kernel
theorem KI_X6_semicolon : Cond.instanceMethod (zyn Y_X6_semicolon) ∈ lw_all := q3190
def Y_X6_fogs : ZY := (yX6_fogs, cX6_fogs, 4, some (.array (.int)), none, 9)
theorem K_X6_fogs : zyc Y_X6_fogs 0 := ⟨show zcw Y_X6_fogs ∈ lw_all from q3196, q201, by decide +kernel, ⟨by decide, by decide⟩, Nat.le_of_ble_eq_true rfl⟩
theorem KS_X6_fogs : (parseMethodDescriptor (zyn Y_X6_fogs).desc).isSome = true := by decide +kernel
theorem KI_X6_fogs : Cond.instanceMethod (zyn Y_X6_fogs) ∈ lw_all := q3195
def Y_X6_number : ZY := (yX6_number, cX6_number, 4, some (.int), none, 8)
theorem K_X6_number : zyc Y_X6_number 2 := ⟨show zcw Y_X6_number ∈ lw_all from q3183, q201, by decide +kernel, ⟨by decide, by decide⟩, Nat.le_of_ble_eq_true rfl⟩
theorem KS_X6_number : (parseMethodDescriptor (zyn Y_X6_number).desc).isSome = true := by decide +kernel
theorem KI_X6_number : Cond.instanceMethod (zyn Y_X6_number) ∈ lw_all := q3182
def Y_X3_init : ZY := (yX3_init, cX3_init, 6, none, none, 1)
theorem K_X3_init : zyc Y_X3_init 5 := ⟨show zcw Y_X3_init ∈ lw_all from q1260, q197, by decide +kernel, ⟨by decide, by decide⟩, Nat.le_of_ble_eq_true rfl⟩
theorem KS_X3_init : (parseMethodDescriptor (zyn Y_X3_init).desc).isSome = true := by decide +kernel
theorem KI_X3_init : Cond.instanceMethod (zyn Y_X3_init) ∈ lw_all := q1259
def Y_X6_newName : ZY := (yX6_newName, cX6_newName, 3, some (.object "java/lang/String"), none, 8)
theorem K_X6_newName : zyc Y_X6_newName 2 := ⟨show zcw Y_X6_newName ∈ lw_all from q3223, q201, by decide +kernel, ⟨by decide, by decide⟩, Nat.le_of_ble_eq_true rfl⟩
theorem KS_X6_newName : (parseMethodDescriptor (zyn Y_X6_newName).desc).isSome = true := by decide +kernel
theorem KI_X6_newName : Cond.instanceMethod (zyn Y_X6_newName) ∈ lw_all := q3222
def Y_J9_coder : ZY := (yJ9_coder, cJ9_coder, 1, some (.byte), none, 1)
theorem K_J9_coder : zyc Y_J9_coder 0 := ⟨show zcw Y_J9_coder ∈ lw_all from q428, q174, by decide +kernel, ⟨by decide, by decide⟩, Nat.le_of_ble_eq_true rfl⟩
theorem KS_J9_coder : (parseMethodDescriptor (zyn Y_J9_coder).desc).isSome = true := by decide +kernel
theorem KI_J9_coder : Cond.instanceMethod (zyn Y_J9_coder) ∈ lw_all := q426
def Y_J9_length : ZY := (yJ9_length, cJ9_length, 1, some (.int), none, 2)
theorem K_J9_length : zyc Y_J9_length 0 := ⟨show zcw Y_J9_length ∈ lw_all from q424, q174, by decide +kernel, ⟨by decide, by decide⟩, Nat.le_of_ble_eq_true rfl⟩
theorem KS_J9_length : (parseMethodDescriptor (zyn Y_J9_length).desc).isSome = true := by decide +kernel
theorem KI_J9_length : Cond.instanceMethod (zyn Y_J9_length) ∈ lw_all := q422
def Y_X6_peekName : ZY := (yX6_peekName, cX6_peekName, 1, some (.object "java/lang/String"), none, 5)
theorem K_X6_peekName : zyc Y_X6_peekName 0 := ⟨show zcw Y_X6_peekName ∈ lw_all from q3217, q201, by decide +kernel, ⟨by decide, by decide⟩, Nat.le_of_ble_eq_true rfl⟩
theorem KS_X6_peekName : (parseMethodDescriptor (zyn Y_X6_peekName).desc).isSome = true := by decide +kernel
theorem KI_X6_peekName : Cond.instanceMethod (zyn Y_X6_peekName) ∈ lw_all := q3216
def Y_J2_elementData : ZY := (yJ2_elementData, cJ2_elementData, 2, some (.object "java/lang/Object"), none, 1)
theorem K_J2_elementData : zyc Y_J2_elementData 1 := ⟨show zcw Y_J2_elementData ∈ lw_all from q1435, q167, by decide +kernel, ⟨by decide, by decide⟩, Nat.le_of_ble_eq_true rfl⟩
theorem KS_J2_elementData : (parseMethodDescriptor (zyn Y_J2_elementData).desc).isSome = true := by decide +kernel
theorem KI_J2_elementData : Cond.instanceMethod (zyn Y_J2_elementData) ∈ lw_all := q1433
def Y_J14_checkIndex : ZY := (yJ14_checkIndex, cJ14_checkIndex, 3, some (.int), none, 1)
theorem K_J14_checkIndex : zyc Y_J14_checkIndex 3 := ⟨show zcw Y_J14_checkIndex ∈ lw_all from q813, q180, by decide +kernel, ⟨by decide, by decide⟩, Nat.le_of_ble_eq_true rfl⟩
theorem KS_J14_checkIndex : (parseMethodDescriptor (zyn Y_J14_checkIndex).desc).isSome = true := by decide +kernel
theorem KT_J14_checkIndex : Cond.static (zyn Y_J14_checkIndex) ∈ lw_all := q812
def Y_J30_checkIndex : ZY := (yJ30_checkIndex, cJ30_checkIndex, 2, some (.int), none, 2)
theorem K_J30_checkIndex : zyc Y_J30_checkIndex 2 := ⟨show zcw Y_J30_checkIndex ∈ lw_all from q1430, q196, by decide +kernel, ⟨by decide, by decide⟩, Nat.le_of_ble_eq_true rfl⟩
theorem KS_J30_checkIndex : (parseMethodDescriptor (zyn Y_J30_checkIndex).desc).isSome = true := by decide +kernel
theorem KT_J30_checkIndex : Cond.static (zyn Y_J30_checkIndex) ∈ lw_all := q1429
def Y_J2_get : ZY := (yJ2_get, cJ2_get, 2, some (.object "java/lang/Object"), none, 3)
theorem K_J2_get : zyc Y_J2_get 1 := ⟨show zcw Y_J2_get ∈ lw_all from q1427, q167, by decide +kernel, ⟨by decide, by decide⟩, Nat.le_of_ble_eq_true rfl⟩
theorem KS_J2_get : (parseMethodDescriptor (zyn Y_J2_get).desc).isSome = true := by decide +kernel
theorem KI_J2_get : Cond.instanceMethod (zyn Y_J2_get) ∈ lw_all := q1425
def Y_X2_echo : ZY := (yX2_echo, cX2_echo, 2, some (.object "EchoFair$Echo"), none, 4)
theorem K_X2_echo : zyc Y_X2_echo 1 := ⟨show zcw Y_X2_echo ∈ lw_all from q1545, q164, by decide +kernel, ⟨by decide, by decide⟩, Nat.le_of_ble_eq_true rfl⟩
theorem KS_X2_echo : (parseMethodDescriptor (zyn Y_X2_echo).desc).isSome = true := by decide +kernel
theorem KI_X2_echo : Cond.instanceMethod (zyn Y_X2_echo) ∈ lw_all := q1543
def Y_J2_size : ZY := (yJ2_size, cJ2_size, 1, some (.int), none, 1)
theorem K_J2_size : zyc Y_J2_size 0 := ⟨show zcw Y_J2_size ∈ lw_all from q1507, q167, by decide +kernel, ⟨by decide, by decide⟩, Nat.le_of_ble_eq_true rfl⟩
theorem KS_J2_size : (parseMethodDescriptor (zyn Y_J2_size).desc).isSome = true := by decide +kernel
theorem KI_J2_size : Cond.instanceMethod (zyn Y_J2_size) ∈ lw_all := q1505
def Y_X2_echoNamed : ZY := (yX2_echoNamed, cX2_echoNamed, 3, some (.int), none, 5)
theorem K_X2_echoNamed : zyc Y_X2_echoNamed 1 := ⟨show zcw Y_X2_echoNamed ∈ lw_all from q1539, q164, by decide +kernel, ⟨by decide, by decide⟩, Nat.le_of_ble_eq_true rfl⟩
theorem KS_X2_echoNamed : (parseMethodDescriptor (zyn Y_X2_echoNamed).desc).isSome = true := by decide +kernel
theorem KI_X2_echoNamed : Cond.instanceMethod (zyn Y_X2_echoNamed) ∈ lw_all := q1537
def Y_J2_add_2 : ZY := (yJ2_add_2, cJ2_add_2, 4, none, none, 1)
theorem K_J2_add_2 : zyc Y_J2_add_2 3 := ⟨show zcw Y_J2_add_2 ∈ lw_all from q1324, q167, by decide +kernel, ⟨by decide, by decide⟩, Nat.le_of_ble_eq_true rfl⟩
theorem KS_J2_add_2 : (parseMethodDescriptor (zyn Y_J2_add_2).desc).isSome = true := by decide +kernel
theorem KI_J2_add_2 : Cond.instanceMethod (zyn Y_J2_add_2) ∈ lw_all := q1323
def Y_J2_add : ZY := (yJ2_add, cJ2_add, 2, some (.boolean), none, 2)
theorem K_J2_add : zyc Y_J2_add 1 := ⟨show zcw Y_J2_add ∈ lw_all from q1320, q167, by decide +kernel, ⟨by decide, by decide⟩, Nat.le_of_ble_eq_true rfl⟩
theorem KS_J2_add : (parseMethodDescriptor (zyn Y_J2_add).desc).isSome = true := by decide +kernel
theorem KI_J2_add : Cond.instanceMethod (zyn Y_J2_add) ∈ lw_all := q1318
def Y_X6_newEcho : ZY := (yX6_newEcho, cX6_newEcho, 7, none, none, 9)
theorem K_X6_newEcho : zyc Y_X6_newEcho 1 := ⟨show zcw Y_X6_newEcho ∈ lw_all from q3211, q201, by decide +kernel, ⟨by decide, by decide⟩, Nat.le_of_ble_eq_true rfl⟩
theorem KS_X6_newEcho : (parseMethodDescriptor (zyn Y_X6_newEcho).desc).isSome = true := by decide +kernel
theorem KI_X6_newEcho : Cond.instanceMethod (zyn Y_X6_newEcho) ∈ lw_all := q3210
def Y_X2_valley : ZY := (yX2_valley, cX2_valley, 2, some (.object "EchoFair$Valley"), none, 4)
theorem K_X2_valley : zyc Y_X2_valley 1 := ⟨show zcw Y_X2_valley ∈ lw_all from q1418, q164, by decide +kernel, ⟨by decide, by decide⟩, Nat.le_of_ble_eq_true rfl⟩
theorem KS_X2_valley : (parseMethodDescriptor (zyn Y_X2_valley).desc).isSome = true := by decide +kernel
theorem KI_X2_valley : Cond.instanceMethod (zyn Y_X2_valley) ∈ lw_all := q1416
def Y_X2_valleyNamed : ZY := (yX2_valleyNamed, cX2_valleyNamed, 3, some (.int), none, 5)
theorem K_X2_valleyNamed : zyc Y_X2_valleyNamed 1 := ⟨show zcw Y_X2_valleyNamed ∈ lw_all from q1562, q164, by decide +kernel, ⟨by decide, by decide⟩, Nat.le_of_ble_eq_true rfl⟩
theorem KS_X2_valleyNamed : (parseMethodDescriptor (zyn Y_X2_valleyNamed).desc).isSome = true := by decide +kernel
theorem KI_X2_valleyNamed : Cond.instanceMethod (zyn Y_X2_valleyNamed) ∈ lw_all := q1560
def Y_X4_init_2 : ZY := (yX4_init_2, cX4_init_2, 6, none, none, 1)
theorem K_X4_init_2 : zyc Y_X4_init_2 5 := ⟨show zcw Y_X4_init_2 ∈ lw_all from q1357, q198, by decide +kernel, ⟨by decide, by decide⟩, Nat.le_of_ble_eq_true rfl⟩
theorem KS_X4_init_2 : (parseMethodDescriptor (zyn Y_X4_init_2).desc).isSome = true := by decide +kernel
theorem KI_X4_init_2 : Cond.instanceMethod (zyn Y_X4_init_2) ∈ lw_all := q1356
def Y_X4_init : ZY := (yX4_init, cX4_init, 6, none, none, 2)
theorem K_X4_init : zyc Y_X4_init 5 := ⟨show zcw Y_X4_init ∈ lw_all from q1354, q198, by decide +kernel, ⟨by decide, by decide⟩, Nat.le_of_ble_eq_true rfl⟩
theorem KS_X4_init : (parseMethodDescriptor (zyn Y_X4_init).desc).isSome = true := by decide +kernel
theorem KI_X4_init : Cond.instanceMethod (zyn Y_X4_init) ∈ lw_all := q1353
def Y_X6_newValley : ZY := (yX6_newValley, cX6_newValley, 7, none, none, 9)
theorem K_X6_newValley : zyc Y_X6_newValley 1 := ⟨show zcw Y_X6_newValley ∈ lw_all from q3231, q201, by decide +kernel, ⟨by decide, by decide⟩, Nat.le_of_ble_eq_true rfl⟩
theorem KS_X6_newValley : (parseMethodDescriptor (zyn Y_X6_newValley).desc).isSome = true := by decide +kernel
theorem KI_X6_newValley : Cond.instanceMethod (zyn Y_X6_newValley) ∈ lw_all := q3230
def Y_X6_known : ZY := (yX6_known, cX6_known, 2, some (.int), none, 8)
theorem K_X6_known : zyc Y_X6_known 1 := ⟨show zcw Y_X6_known ∈ lw_all from q3246, q201, by decide +kernel, ⟨by decide, by decide⟩, Nat.le_of_ble_eq_true rfl⟩
theorem KS_X6_known : (parseMethodDescriptor (zyn Y_X6_known).desc).isSome = true := by decide +kernel
theorem KI_X6_known : Cond.instanceMethod (zyn Y_X6_known) ∈ lw_all := q3245
def Y_X6_echo : ZY := (yX6_echo, cX6_echo, 2, some (.int), none, 9)
theorem K_X6_echo : zyc Y_X6_echo 1 := ⟨show zcw Y_X6_echo ∈ lw_all from q3251, q201, by decide +kernel, ⟨by decide, by decide⟩, Nat.le_of_ble_eq_true rfl⟩
theorem KS_X6_echo : (parseMethodDescriptor (zyn Y_X6_echo).desc).isSome = true := by decide +kernel
theorem KI_X6_echo : Cond.instanceMethod (zyn Y_X6_echo) ∈ lw_all := q3250
def Y_X6_valley : ZY := (yX6_valley, cX6_valley, 2, some (.int), none, 9)
theorem K_X6_valley : zyc Y_X6_valley 1 := ⟨show zcw Y_X6_valley ∈ lw_all from q3242, q201, by decide +kernel, ⟨by decide, by decide⟩, Nat.le_of_ble_eq_true rfl⟩
theorem KS_X6_valley : (parseMethodDescriptor (zyn Y_X6_valley).desc).isSome = true := by decide +kernel
theorem KI_X6_valley : Cond.instanceMethod (zyn Y_X6_valley) ∈ lw_all := q3241
def Y_X6_tested : ZY := (yX6_tested, cX6_tested, 3, none, none, 10)
theorem K_X6_tested : zyc Y_X6_tested 1 := ⟨show zcw Y_X6_tested ∈ lw_all from q3238, q201, by decide +kernel, ⟨by decide, by decide⟩, Nat.le_of_ble_eq_true rfl⟩
theorem KS_X6_tested : (parseMethodDescriptor (zyn Y_X6_tested).desc).isSome = true := by decide +kernel
theorem KI_X6_tested : Cond.instanceMethod (zyn Y_X6_tested) ∈ lw_all := q3237
def Y_J9_isLatin1 : ZY := (yJ9_isLatin1, cJ9_isLatin1, 1, some (.boolean), none, 1)
theorem K_J9_isLatin1 : zyc Y_J9_isLatin1 0 := ⟨show zcw Y_J9_isLatin1 ∈ lw_all from q893, q174, by decide +kernel, ⟨by decide, by decide⟩, Nat.le_of_ble_eq_true rfl⟩
theorem KS_J9_isLatin1 : (parseMethodDescriptor (zyn Y_J9_isLatin1).desc).isSome = true := by decide +kernel
theorem KI_J9_isLatin1 : Cond.instanceMethod (zyn Y_J9_isLatin1) ∈ lw_all := q891
def Y_J11_signedHashCode : ZY := (yJ11_signedHashCode, cJ11_signedHashCode, 6, some (.int), none, 1)
theorem K_J11_signedHashCode : zyc Y_J11_signedHashCode 4 := ⟨show zcw Y_J11_signedHashCode ∈ lw_all from q1682, q176, by decide +kernel, ⟨by decide, by decide⟩, Nat.le_of_ble_eq_true rfl⟩
theorem KS_J11_signedHashCode : (parseMethodDescriptor (zyn Y_J11_signedHashCode).desc).isSome = true := by decide +kernel
theorem KT_J11_signedHashCode : Cond.static (zyn Y_J11_signedHashCode) ∈ lw_all := q1681
def Y_J11_vectorizedHashCode : ZY := (yJ11_vectorizedHashCode, cJ11_vectorizedHashCode, 5, some (.int), none, 2)
theorem K_J11_vectorizedHashCode : zyc Y_J11_vectorizedHashCode 5 := ⟨show zcw Y_J11_vectorizedHashCode ∈ lw_all from q1678, q176, by decide +kernel, ⟨by decide, by decide⟩, Nat.le_of_ble_eq_true rfl⟩
theorem KS_J11_vectorizedHashCode : (parseMethodDescriptor (zyn Y_J11_vectorizedHashCode).desc).isSome = true := by decide +kernel
theorem KT_J11_vectorizedHashCode : Cond.static (zyn Y_J11_vectorizedHashCode) ∈ lw_all := q1677
def Y_J15_hashCode : ZY := (yJ15_hashCode, cJ15_hashCode, 1, some (.int), none, 3)
theorem K_J15_hashCode : zyc Y_J15_hashCode 1 := ⟨show zcw Y_J15_hashCode ∈ lw_all from q1675, q181, by decide +kernel, ⟨by decide, by decide⟩, Nat.le_of_ble_eq_true rfl⟩
theorem KS_J15_hashCode : (parseMethodDescriptor (zyn Y_J15_hashCode).desc).isSome = true := by decide +kernel
theorem KT_J15_hashCode : Cond.static (zyn Y_J15_hashCode) ∈ lw_all := q1674
def Y_J9_hashCode : ZY := (yJ9_hashCode, cJ9_hashCode, 2, some (.int), none, 4)
theorem K_J9_hashCode : zyc Y_J9_hashCode 0 := ⟨show zcw Y_J9_hashCode ∈ lw_all from q1672, q174, by decide +kernel, ⟨by decide, by decide⟩, Nat.le_of_ble_eq_true rfl⟩
theorem KS_J9_hashCode : (parseMethodDescriptor (zyn Y_J9_hashCode).desc).isSome = true := by decide +kernel
theorem KI_J9_hashCode : Cond.instanceMethod (zyn Y_J9_hashCode) ∈ lw_all := q1671
def Y_X6_statement : ZY := (yX6_statement, cX6_statement, 4, none, none, 11)
theorem K_X6_statement : zyc Y_X6_statement 1 := ⟨show zcw Y_X6_statement ∈ lw_all from q3203, q201, by decide +kernel, ⟨by decide, by decide⟩, Nat.le_of_ble_eq_true rfl⟩
theorem KS_X6_statement : (parseMethodDescriptor (zyn Y_X6_statement).desc).isSome = true := by decide +kernel
theorem KI_X6_statement : Cond.instanceMethod (zyn Y_X6_statement) ∈ lw_all := q3202
def Y_J0_init : ZY := (yJ0_init, cJ0_init, 1, none, none, 1)
theorem K_J0_init : zyc Y_J0_init 0 := ⟨show zcw Y_J0_init ∈ lw_all from q258, q165, by decide +kernel, ⟨by decide, by decide⟩, Nat.le_of_ble_eq_true rfl⟩
theorem KS_J0_init : (parseMethodDescriptor (zyn Y_J0_init).desc).isSome = true := by decide +kernel
theorem KI_J0_init : Cond.instanceMethod (zyn Y_J0_init) ∈ lw_all := q257
def Y_J1_init : ZY := (yJ1_init, cJ1_init, 1, none, none, 2)
theorem K_J1_init : zyc Y_J1_init 0 := ⟨show zcw Y_J1_init ∈ lw_all from q255, q166, by decide +kernel, ⟨by decide, by decide⟩, Nat.le_of_ble_eq_true rfl⟩
theorem KS_J1_init : (parseMethodDescriptor (zyn Y_J1_init).desc).isSome = true := by decide +kernel
theorem KI_J1_init : Cond.instanceMethod (zyn Y_J1_init) ∈ lw_all := q254
def Y_J2_init : ZY := (yJ2_init, cJ2_init, 2, none, none, 3)
theorem K_J2_init : zyc Y_J2_init 1 := ⟨show zcw Y_J2_init ∈ lw_all from q252, q167, by decide +kernel, ⟨by decide, by decide⟩, Nat.le_of_ble_eq_true rfl⟩
theorem KS_J2_init : (parseMethodDescriptor (zyn Y_J2_init).desc).isSome = true := by decide +kernel
theorem KI_J2_init : Cond.instanceMethod (zyn Y_J2_init) ∈ lw_all := q251
def Y_J21_init : ZY := (yJ21_init, cJ21_init, 1, none, none, 1)
theorem K_J21_init : zyc Y_J21_init 0 := ⟨show zcw Y_J21_init ∈ lw_all from q622, q187, by decide +kernel, ⟨by decide, by decide⟩, Nat.le_of_ble_eq_true rfl⟩
theorem KS_J21_init : (parseMethodDescriptor (zyn Y_J21_init).desc).isSome = true := by decide +kernel
theorem KI_J21_init : Cond.instanceMethod (zyn Y_J21_init) ∈ lw_all := q621
def Y_J22_init_2 : ZY := (yJ22_init_2, cJ22_init_2, 1, none, none, 2)
theorem K_J22_init_2 : zyc Y_J22_init_2 0 := ⟨show zcw Y_J22_init_2 ∈ lw_all from q1188, q188, by decide +kernel, ⟨by decide, by decide⟩, Nat.le_of_ble_eq_true rfl⟩
theorem KS_J22_init_2 : (parseMethodDescriptor (zyn Y_J22_init_2).desc).isSome = true := by decide +kernel
theorem KI_J22_init_2 : Cond.instanceMethod (zyn Y_J22_init_2) ∈ lw_all := q1187
def Y_J18_init : ZY := (yJ18_init, cJ18_init, 1, none, none, 2)
theorem K_J18_init : zyc Y_J18_init 0 := ⟨show zcw Y_J18_init ∈ lw_all from q610, q184, by decide +kernel, ⟨by decide, by decide⟩, Nat.le_of_ble_eq_true rfl⟩
theorem KS_J18_init : (parseMethodDescriptor (zyn Y_J18_init).desc).isSome = true := by decide +kernel
theorem KI_J18_init : Cond.instanceMethod (zyn Y_J18_init) ∈ lw_all := q609
def Y_J24_isNaN : ZY := (yJ24_isNaN, cJ24_isNaN, 1, some (.boolean), none, 1)
theorem K_J24_isNaN : zyc Y_J24_isNaN 1 := ⟨show zcw Y_J24_isNaN ∈ lw_all from q635, q190, by decide +kernel, ⟨by decide, by decide⟩, Nat.le_of_ble_eq_true rfl⟩
theorem KS_J24_isNaN : (parseMethodDescriptor (zyn Y_J24_isNaN).desc).isSome = true := by decide +kernel
theorem KT_J24_isNaN : Cond.static (zyn Y_J24_isNaN) ∈ lw_all := q634
def Y_J17_numberOfLeadingZeros : ZY := (yJ17_numberOfLeadingZeros, cJ17_numberOfLeadingZeros, 2, some (.int), none, 1)
theorem K_J17_numberOfLeadingZeros : zyc Y_J17_numberOfLeadingZeros 1 := ⟨show zcw Y_J17_numberOfLeadingZeros ∈ lw_all from q683, q183, by decide +kernel, ⟨by decide, by decide⟩, Nat.le_of_ble_eq_true rfl⟩
theorem KS_J17_numberOfLeadingZeros : (parseMethodDescriptor (zyn Y_J17_numberOfLeadingZeros).desc).isSome = true := by decide +kernel
theorem KT_J17_numberOfLeadingZeros : Cond.static (zyn Y_J17_numberOfLeadingZeros) ∈ lw_all := q682
def Y_J22_tableSizeFor : ZY := (yJ22_tableSizeFor, cJ22_tableSizeFor, 2, some (.int), none, 2)
theorem K_J22_tableSizeFor : zyc Y_J22_tableSizeFor 1 := ⟨show zcw Y_J22_tableSizeFor ∈ lw_all from q1129, q188, by decide +kernel, ⟨by decide, by decide⟩, Nat.le_of_ble_eq_true rfl⟩
theorem KS_J22_tableSizeFor : (parseMethodDescriptor (zyn Y_J22_tableSizeFor).desc).isSome = true := by decide +kernel
theorem KT_J22_tableSizeFor : Cond.static (zyn Y_J22_tableSizeFor) ∈ lw_all := q1128
def Y_J22_init : ZY := (yJ22_init, cJ22_init, 3, none, none, 3)
theorem K_J22_init : zyc Y_J22_init 2 := ⟨show zcw Y_J22_init ∈ lw_all from q619, q188, by decide +kernel, ⟨by decide, by decide⟩, Nat.le_of_ble_eq_true rfl⟩
theorem KS_J22_init : (parseMethodDescriptor (zyn Y_J22_init).desc).isSome = true := by decide +kernel
theorem KI_J22_init : Cond.instanceMethod (zyn Y_J22_init) ∈ lw_all := q618
def Y_J23_init : ZY := (yJ23_init, cJ23_init, 3, none, none, 4)
theorem K_J23_init : zyc Y_J23_init 2 := ⟨show zcw Y_J23_init ∈ lw_all from q616, q189, by decide +kernel, ⟨by decide, by decide⟩, Nat.le_of_ble_eq_true rfl⟩
theorem KS_J23_init : (parseMethodDescriptor (zyn Y_J23_init).desc).isSome = true := by decide +kernel
theorem KI_J23_init : Cond.instanceMethod (zyn Y_J23_init) ∈ lw_all := q615
def Y_J19_init : ZY := (yJ19_init, cJ19_init, 4, none, none, 5)
theorem K_J19_init : zyc Y_J19_init 3 := ⟨show zcw Y_J19_init ∈ lw_all from q607, q185, by decide +kernel, ⟨by decide, by decide⟩, Nat.le_of_ble_eq_true rfl⟩
theorem KS_J19_init : (parseMethodDescriptor (zyn Y_J19_init).desc).isSome = true := by decide +kernel
theorem KI_J19_init : Cond.instanceMethod (zyn Y_J19_init) ∈ lw_all := q606
def Y_J20_init : ZY := (yJ20_init, cJ20_init, 1, none, none, 6)
theorem K_J20_init : zyc Y_J20_init 0 := ⟨show zcw Y_J20_init ∈ lw_all from q603, q186, by decide +kernel, ⟨by decide, by decide⟩, Nat.le_of_ble_eq_true rfl⟩
theorem KS_J20_init : (parseMethodDescriptor (zyn Y_J20_init).desc).isSome = true := by decide +kernel
theorem KI_J20_init : Cond.instanceMethod (zyn Y_J20_init) ∈ lw_all := q602
def Y_X2_init : ZY := (yX2_init, cX2_init, 3, none, none, 7)
theorem K_X2_init : zyc Y_X2_init 2 := ⟨show zcw Y_X2_init ∈ lw_all from q246, q164, by decide +kernel, ⟨by decide, by decide⟩, Nat.le_of_ble_eq_true rfl⟩
theorem KS_X2_init : (parseMethodDescriptor (zyn Y_X2_init).desc).isSome = true := by decide +kernel
theorem KI_X2_init : Cond.instanceMethod (zyn Y_X2_init) ∈ lw_all := q245
def Y_J2_isEmpty : ZY := (yJ2_isEmpty, cJ2_isEmpty, 1, some (.boolean), none, 1)
theorem K_J2_isEmpty : zyc Y_J2_isEmpty 0 := ⟨show zcw Y_J2_isEmpty ∈ lw_all from q3260, q167, by decide +kernel, ⟨by decide, by decide⟩, Nat.le_of_ble_eq_true rfl⟩
theorem KS_J2_isEmpty : (parseMethodDescriptor (zyn Y_J2_isEmpty).desc).isSome = true := by decide +kernel
theorem KI_J2_isEmpty : Cond.instanceMethod (zyn Y_J2_isEmpty) ∈ lw_all := q3258
def Y_X6_configuration : ZY := (yX6_configuration, cX6_configuration, 4, some (.object "EchoFair$State"), none, 12)
theorem K_X6_configuration : zyc Y_X6_configuration 0 := ⟨show zcw Y_X6_configuration ∈ lw_all from q3141, q201, by decide +kernel, ⟨by decide, by decide⟩, Nat.le_of_ble_eq_true rfl⟩
theorem KS_X6_configuration : (parseMethodDescriptor (zyn Y_X6_configuration).desc).isSome = true := by decide +kernel
theorem KI_X6_configuration : Cond.instanceMethod (zyn Y_X6_configuration) ∈ lw_all := q3139
def Y_X1_clearError : ZY := (yX1_clearError, cX1_clearError, 1, none, none, 1)
theorem K_X1_clearError : zyc Y_X1_clearError 0 := ⟨show zcw Y_X1_clearError ∈ lw_all from q3268, q163, by decide +kernel, ⟨by decide, by decide⟩, Nat.le_of_ble_eq_true rfl⟩
theorem KS_X1_clearError : (parseMethodDescriptor (zyn Y_X1_clearError).desc).isSome = true := by decide +kernel
theorem KI_X1_clearError : Cond.instanceMethod (zyn Y_X1_clearError) ∈ lw_all := q3267
def Y_J31_circularClear : ZY := (yJ31_circularClear, cJ31_circularClear, 4, none, none, 1)
theorem K_J31_circularClear : zyc Y_J31_circularClear 3 := ⟨show zcw Y_J31_circularClear ∈ lw_all from q3275, q199, by decide +kernel, ⟨by decide, by decide⟩, Nat.le_of_ble_eq_true rfl⟩
theorem KS_J31_circularClear : (parseMethodDescriptor (zyn Y_J31_circularClear).desc).isSome = true := by decide +kernel
theorem KT_J31_circularClear : Cond.static (zyn Y_J31_circularClear) ∈ lw_all := q3274
def Y_J31_clear : ZY := (yJ31_clear, cJ31_clear, 1, none, none, 2)
theorem K_J31_clear : zyc Y_J31_clear 0 := ⟨show zcw Y_J31_clear ∈ lw_all from q3272, q199, by decide +kernel, ⟨by decide, by decide⟩, Nat.le_of_ble_eq_true rfl⟩
theorem KS_J31_clear : (parseMethodDescriptor (zyn Y_J31_clear).desc).isSome = true := by decide +kernel
theorem KI_J31_clear : Cond.instanceMethod (zyn Y_J31_clear) ∈ lw_all := q3270
def Y_X1_load : ZY := (yX1_load, cX1_load, 4, some (.int), (some [(0, 12, 20, 167), (0, 12, 27, 0), (20, 28, 27, 0)]), 13)
theorem K_X1_load : zyc Y_X1_load 0 := ⟨show zcw Y_X1_load ∈ lw_all from q3082, q163, by decide +kernel, ⟨by decide, by decide⟩, Nat.le_of_ble_eq_true rfl⟩
theorem KS_X1_load : (parseMethodDescriptor (zyn Y_X1_load).desc).isSome = true := by decide +kernel
theorem KI_X1_load : Cond.instanceMethod (zyn Y_X1_load) ∈ lw_all := q3080
def Y_X0_load : ZY := (yX0_load, cX0_load, 3, some (.int), (some [(0, 8, 11, 19)]), 14)
theorem K_X0_load : zyc Y_X0_load 2 := ⟨show zcw Y_X0_load ∈ lw_all from q3078, q162, by decide +kernel, ⟨by decide, by decide⟩, Nat.le_of_ble_eq_true rfl⟩
theorem KS_X0_load : (parseMethodDescriptor (zyn Y_X0_load).desc).isSome = true := by decide +kernel
theorem KT_X0_load : Cond.static (zyn Y_X0_load) ∈ lw_all := q3077
def Y_X6_dismissCommand : ZY := (yX6_dismissCommand, cX6_dismissCommand, 2, some (.object "EchoFair$Operation"), none, 1)
theorem K_X6_dismissCommand : zyc Y_X6_dismissCommand 1 := ⟨show zcw Y_X6_dismissCommand ∈ lw_all from q3414, q201, by decide +kernel, ⟨by decide, by decide⟩, Nat.le_of_ble_eq_true rfl⟩
theorem KS_X6_dismissCommand : (parseMethodDescriptor (zyn Y_X6_dismissCommand).desc).isSome = true := by decide +kernel
theorem KI_X6_dismissCommand : Cond.instanceMethod (zyn Y_X6_dismissCommand) ∈ lw_all := q3413
def Y_X6_fundCommand : ZY := (yX6_fundCommand, cX6_fundCommand, 3, some (.object "EchoFair$Operation"), none, 9)
theorem K_X6_fundCommand : zyc Y_X6_fundCommand 1 := ⟨show zcw Y_X6_fundCommand ∈ lw_all from q3434, q201, by decide +kernel, ⟨by decide, by decide⟩, Nat.le_of_ble_eq_true rfl⟩
theorem KS_X6_fundCommand : (parseMethodDescriptor (zyn Y_X6_fundCommand).desc).isSome = true := by decide +kernel
theorem KI_X6_fundCommand : Cond.instanceMethod (zyn Y_X6_fundCommand) ∈ lw_all := q3433
def Y_X6_passCommand : ZY := (yX6_passCommand, cX6_passCommand, 2, some (.object "EchoFair$Operation"), none, 1)
theorem K_X6_passCommand : zyc Y_X6_passCommand 1 := ⟨show zcw Y_X6_passCommand ∈ lw_all from q3313, q201, by decide +kernel, ⟨by decide, by decide⟩, Nat.le_of_ble_eq_true rfl⟩
theorem KS_X6_passCommand : (parseMethodDescriptor (zyn Y_X6_passCommand).desc).isSome = true := by decide +kernel
theorem KI_X6_passCommand : Cond.instanceMethod (zyn Y_X6_passCommand) ∈ lw_all := q3312
def Y_X6_testCommand : ZY := (yX6_testCommand, cX6_testCommand, 3, some (.object "EchoFair$Operation"), none, 10)
theorem K_X6_testCommand : zyc Y_X6_testCommand 1 := ⟨show zcw Y_X6_testCommand ∈ lw_all from q3403, q201, by decide +kernel, ⟨by decide, by decide⟩, Nat.le_of_ble_eq_true rfl⟩
theorem KS_X6_testCommand : (parseMethodDescriptor (zyn Y_X6_testCommand).desc).isSome = true := by decide +kernel
theorem KI_X6_testCommand : Cond.instanceMethod (zyn Y_X6_testCommand) ∈ lw_all := q3402
def Y_X6_trainCommand : ZY := (yX6_trainCommand, cX6_trainCommand, 2, some (.object "EchoFair$Operation"), none, 1)
theorem K_X6_trainCommand : zyc Y_X6_trainCommand 1 := ⟨show zcw Y_X6_trainCommand ∈ lw_all from q3444, q201, by decide +kernel, ⟨by decide, by decide⟩, Nat.le_of_ble_eq_true rfl⟩
theorem KS_X6_trainCommand : (parseMethodDescriptor (zyn Y_X6_trainCommand).desc).isSome = true := by decide +kernel
theorem KI_X6_trainCommand : Cond.instanceMethod (zyn Y_X6_trainCommand) ∈ lw_all := q3443
def Y_X6_wageCommand : ZY := (yX6_wageCommand, cX6_wageCommand, 3, some (.object "EchoFair$Operation"), none, 9)
theorem K_X6_wageCommand : zyc Y_X6_wageCommand 1 := ⟨show zcw Y_X6_wageCommand ∈ lw_all from q3424, q201, by decide +kernel, ⟨by decide, by decide⟩, Nat.le_of_ble_eq_true rfl⟩
theorem KS_X6_wageCommand : (parseMethodDescriptor (zyn Y_X6_wageCommand).desc).isSome = true := by decide +kernel
theorem KI_X6_wageCommand : Cond.instanceMethod (zyn Y_X6_wageCommand) ∈ lw_all := q3423
def Y_X6_command : ZY := (yX6_command, cX6_command, 4, some (.object "EchoFair$Operation"), none, 11)
theorem K_X6_command : zyc Y_X6_command 0 := ⟨show zcw Y_X6_command ∈ lw_all from q3304, q201, by decide +kernel, ⟨by decide, by decide⟩, Nat.le_of_ble_eq_true rfl⟩
theorem KS_X6_command : (parseMethodDescriptor (zyn Y_X6_command).desc).isSome = true := by decide +kernel
theorem KI_X6_command : Cond.instanceMethod (zyn Y_X6_command) ∈ lw_all := q3303
def Y_X1_isCommand : ZY := (yX1_isCommand, cX1_isCommand, 3, some (.boolean), none, 5)
theorem K_X1_isCommand : zyc Y_X1_isCommand 1 := ⟨show zcw Y_X1_isCommand ∈ lw_all from q3291, q163, by decide +kernel, ⟨by decide, by decide⟩, Nat.le_of_ble_eq_true rfl⟩
theorem KS_X1_isCommand : (parseMethodDescriptor (zyn Y_X1_isCommand).desc).isSome = true := by decide +kernel
theorem KT_X1_isCommand : Cond.static (zyn Y_X1_isCommand) ∈ lw_all := q3290
def Y_X6_commands : ZY := (yX6_commands, cX6_commands, 3, some (.array (.object "EchoFair$Operation")), none, 12)
theorem K_X6_commands : zyc Y_X6_commands 0 := ⟨show zcw Y_X6_commands ∈ lw_all from q3286, q201, by decide +kernel, ⟨by decide, by decide⟩, Nat.le_of_ble_eq_true rfl⟩
theorem KS_X6_commands : (parseMethodDescriptor (zyn Y_X6_commands).desc).isSome = true := by decide +kernel
theorem KI_X6_commands : Cond.instanceMethod (zyn Y_X6_commands) ∈ lw_all := q3284
def Y_X3_copy : ZY := (yX3_copy, cX3_copy, 2, some (.object "EchoFair$Echo"), none, 2)
theorem K_X3_copy : zyc Y_X3_copy 0 := ⟨show zcw Y_X3_copy ∈ lw_all from q2365, q197, by decide +kernel, ⟨by decide, by decide⟩, Nat.le_of_ble_eq_true rfl⟩
theorem KS_X3_copy : (parseMethodDescriptor (zyn Y_X3_copy).desc).isSome = true := by decide +kernel
theorem KI_X3_copy : Cond.instanceMethod (zyn Y_X3_copy) ∈ lw_all := q2363
def Y_X4_copy : ZY := (yX4_copy, cX4_copy, 2, some (.object "EchoFair$Valley"), none, 2)
theorem K_X4_copy : zyc Y_X4_copy 0 := ⟨show zcw Y_X4_copy ∈ lw_all from q2373, q198, by decide +kernel, ⟨by decide, by decide⟩, Nat.le_of_ble_eq_true rfl⟩
theorem KS_X4_copy : (parseMethodDescriptor (zyn Y_X4_copy).desc).isSome = true := by decide +kernel
theorem KI_X4_copy : Cond.instanceMethod (zyn Y_X4_copy) ∈ lw_all := q2371
def Y_X9_hashCode : ZY := (yX9_hashCode, cX9_hashCode, 1, some (.int), none, 1)
theorem K_X9_hashCode : zyc Y_X9_hashCode 0 := ⟨show zcw Y_X9_hashCode ∈ lw_all from q1647, q207, by decide +kernel, ⟨by decide, by decide⟩, Nat.le_of_ble_eq_true rfl⟩
theorem KS_X9_hashCode : (parseMethodDescriptor (zyn Y_X9_hashCode).desc).isSome = true := by decide +kernel
theorem KI_X9_hashCode : Cond.instanceMethod (zyn Y_X9_hashCode) ∈ lw_all := q1646
def Y_J22_hash : ZY := (yJ22_hash, cJ22_hash, 2, some (.int), none, 2)
theorem K_J22_hash : zyc Y_J22_hash 1 := ⟨show zcw Y_J22_hash ∈ lw_all from q1637, q188, by decide +kernel, ⟨by decide, by decide⟩, Nat.le_of_ble_eq_true rfl⟩
theorem KS_J22_hash : (parseMethodDescriptor (zyn Y_J22_hash).desc).isSome = true := by decide +kernel
theorem KT_J22_hash : Cond.static (zyn Y_J22_hash) ∈ lw_all := q1636
def Y_X9_equals : ZY := (yX9_equals, cX9_equals, 3, some (.boolean), none, 1)
theorem K_X9_equals : zyc Y_X9_equals 1 := ⟨show zcw Y_X9_equals ∈ lw_all from q1741, q207, by decide +kernel, ⟨by decide, by decide⟩, Nat.le_of_ble_eq_true rfl⟩
theorem KS_X9_equals : (parseMethodDescriptor (zyn Y_X9_equals).desc).isSome = true := by decide +kernel
theorem KI_X9_equals : Cond.instanceMethod (zyn Y_X9_equals) ∈ lw_all := q1740
def Y_J22_resize : ZY := (yJ22_resize, cJ22_resize, 14, some (.array (.object "java/util/HashMap$Node")), none, 1)
theorem K_J22_resize : zyc Y_J22_resize 0 := ⟨show zcw Y_J22_resize ∈ lw_all from q2621, q188, by decide +kernel, ⟨by decide, by decide⟩, Nat.le_of_ble_eq_true rfl⟩
theorem KS_J22_resize : (parseMethodDescriptor (zyn Y_J22_resize).desc).isSome = true := by decide +kernel
theorem KI_J22_resize : Cond.instanceMethod (zyn Y_J22_resize) ∈ lw_all := q2617
def Y_J23_afterNodeAccess : ZY := (yJ23_afterNodeAccess, cJ23_afterNodeAccess, 7, none, none, 1)
theorem K_J23_afterNodeAccess : zyc Y_J23_afterNodeAccess 1 := ⟨show zcw Y_J23_afterNodeAccess ∈ lw_all from q2798, q189, by decide +kernel, ⟨by decide, by decide⟩, Nat.le_of_ble_eq_true rfl⟩
theorem KS_J23_afterNodeAccess : (parseMethodDescriptor (zyn Y_J23_afterNodeAccess).desc).isSome = true := by decide +kernel
theorem KI_J23_afterNodeAccess : Cond.instanceMethod (zyn Y_J23_afterNodeAccess) ∈ lw_all := q2797
def Y_J23_afterNodeInsertion : ZY := (yJ23_afterNodeInsertion, cJ23_afterNodeInsertion, 4, none, none, 1)
theorem K_J23_afterNodeInsertion : zyc Y_J23_afterNodeInsertion 1 := ⟨show zcw Y_J23_afterNodeInsertion ∈ lw_all from q2806, q189, by decide +kernel, ⟨by decide, by decide⟩, Nat.le_of_ble_eq_true rfl⟩
theorem KS_J23_afterNodeInsertion : (parseMethodDescriptor (zyn Y_J23_afterNodeInsertion).desc).isSome = true := by decide +kernel
theorem KI_J23_afterNodeInsertion : Cond.instanceMethod (zyn Y_J23_afterNodeInsertion) ∈ lw_all := q2805
def Y_J36_init : ZY := (yJ36_init, cJ36_init, 5, none, none, 1)
theorem K_J36_init : zyc Y_J36_init 4 := ⟨show zcw Y_J36_init ∈ lw_all from q2649, q212, by decide +kernel, ⟨by decide, by decide⟩, Nat.le_of_ble_eq_true rfl⟩
theorem KS_J36_init : (parseMethodDescriptor (zyn Y_J36_init).desc).isSome = true := by decide +kernel
theorem KI_J36_init : Cond.instanceMethod (zyn Y_J36_init) ∈ lw_all := q2648
def Y_J37_init : ZY := (yJ37_init, cJ37_init, 5, none, none, 2)
theorem K_J37_init : zyc Y_J37_init 4 := ⟨show zcw Y_J37_init ∈ lw_all from q2646, q213, by decide +kernel, ⟨by decide, by decide⟩, Nat.le_of_ble_eq_true rfl⟩
theorem KS_J37_init : (parseMethodDescriptor (zyn Y_J37_init).desc).isSome = true := by decide +kernel
theorem KI_J37_init : Cond.instanceMethod (zyn Y_J37_init) ∈ lw_all := q2645
def Y_J23_linkNodeAtEnd : ZY := (yJ23_linkNodeAtEnd, cJ23_linkNodeAtEnd, 3, none, none, 1)
theorem K_J23_linkNodeAtEnd : zyc Y_J23_linkNodeAtEnd 1 := ⟨show zcw Y_J23_linkNodeAtEnd ∈ lw_all from q2733, q189, by decide +kernel, ⟨by decide, by decide⟩, Nat.le_of_ble_eq_true rfl⟩
theorem KS_J23_linkNodeAtEnd : (parseMethodDescriptor (zyn Y_J23_linkNodeAtEnd).desc).isSome = true := by decide +kernel
theorem KI_J23_linkNodeAtEnd : Cond.instanceMethod (zyn Y_J23_linkNodeAtEnd) ∈ lw_all := q2732
def Y_J23_newNode : ZY := (yJ23_newNode, cJ23_newNode, 6, some (.object "java/util/HashMap$Node"), none, 3)
theorem K_J23_newNode : zyc Y_J23_newNode 4 := ⟨show zcw Y_J23_newNode ∈ lw_all from q2729, q189, by decide +kernel, ⟨by decide, by decide⟩, Nat.le_of_ble_eq_true rfl⟩
theorem KS_J23_newNode : (parseMethodDescriptor (zyn Y_J23_newNode).desc).isSome = true := by decide +kernel
theorem KI_J23_newNode : Cond.instanceMethod (zyn Y_J23_newNode) ∈ lw_all := q2728
def Y_J22_putVal : ZY := (yJ22_putVal, cJ22_putVal, 13, some (.object "java/lang/Object"), none, 4)
theorem K_J22_putVal : zyc Y_J22_putVal 5 := ⟨show zcw Y_J22_putVal ∈ lw_all from q2615, q188, by decide +kernel, ⟨by decide, by decide⟩, Nat.le_of_ble_eq_true rfl⟩
theorem KS_J22_putVal : (parseMethodDescriptor (zyn Y_J22_putVal).desc).isSome = true := by decide +kernel
theorem KI_J22_putVal : Cond.instanceMethod (zyn Y_J22_putVal) ∈ lw_all := q2611
def Y_J22_put : ZY := (yJ22_put, cJ22_put, 3, some (.object "java/lang/Object"), none, 5)
theorem K_J22_put : zyc Y_J22_put 2 := ⟨show zcw Y_J22_put ∈ lw_all from q2609, q188, by decide +kernel, ⟨by decide, by decide⟩, Nat.le_of_ble_eq_true rfl⟩
theorem KS_J22_put : (parseMethodDescriptor (zyn Y_J22_put).desc).isSome = true := by decide +kernel
theorem KI_J22_put : Cond.instanceMethod (zyn Y_J22_put) ∈ lw_all := q2605
def Y_J19_add : ZY := (yJ19_add, cJ19_add, 2, some (.boolean), none, 6)
theorem K_J19_add : zyc Y_J19_add 1 := ⟨show zcw Y_J19_add ∈ lw_all from q2601, q185, by decide +kernel, ⟨by decide, by decide⟩, Nat.le_of_ble_eq_true rfl⟩
theorem KS_J19_add : (parseMethodDescriptor (zyn Y_J19_add).desc).isSome = true := by decide +kernel
theorem KI_J19_add : Cond.instanceMethod (zyn Y_J19_add) ∈ lw_all := q2600
def Y_J43_init : ZY := (yJ43_init, cJ43_init, 3, none, none, 1)
theorem K_J43_init : zyc Y_J43_init 2 := ⟨show zcw Y_J43_init ∈ lw_all from q2491, q219, by decide +kernel, ⟨by decide, by decide⟩, Nat.le_of_ble_eq_true rfl⟩
theorem KS_J43_init : (parseMethodDescriptor (zyn Y_J43_init).desc).isSome = true := by decide +kernel
theorem KI_J43_init : Cond.instanceMethod (zyn Y_J43_init) ∈ lw_all := q2490
def Y_J45_init : ZY := (yJ45_init, cJ45_init, 3, none, none, 2)
theorem K_J45_init : zyc Y_J45_init 2 := ⟨show zcw Y_J45_init ∈ lw_all from q2519, q221, by decide +kernel, ⟨by decide, by decide⟩, Nat.le_of_ble_eq_true rfl⟩
theorem KS_J45_init : (parseMethodDescriptor (zyn Y_J45_init).desc).isSome = true := by decide +kernel
theorem KI_J45_init : Cond.instanceMethod (zyn Y_J45_init) ∈ lw_all := q2518
def Y_J47_iterator : ZY := (yJ47_iterator, cJ47_iterator, 1, some (.object "java/util/Iterator"), none, 3)
theorem K_J47_iterator : zyc Y_J47_iterator 0 := ⟨show zcw Y_J47_iterator ∈ lw_all from q2514, q223, by decide +kernel, ⟨by decide, by decide⟩, Nat.le_of_ble_eq_true rfl⟩
theorem KS_J47_iterator : (parseMethodDescriptor (zyn Y_J47_iterator).desc).isSome = true := by decide +kernel
theorem KI_J47_iterator : Cond.instanceMethod (zyn Y_J47_iterator) ∈ lw_all := q2512
def Y_J47_init : ZY := (yJ47_init, cJ47_init, 3, none, none, 3)
theorem K_J47_init : zyc Y_J47_init 2 := ⟨show zcw Y_J47_init ∈ lw_all from q2548, q223, by decide +kernel, ⟨by decide, by decide⟩, Nat.le_of_ble_eq_true rfl⟩
theorem KS_J47_init : (parseMethodDescriptor (zyn Y_J47_init).desc).isSome = true := by decide +kernel
theorem KI_J47_init : Cond.instanceMethod (zyn Y_J47_init) ∈ lw_all := q2547
def Y_J23_sequencedKeySet : ZY := (yJ23_sequencedKeySet, cJ23_sequencedKeySet, 3, some (.object "java/util/SequencedSet"), none, 4)
theorem K_J23_sequencedKeySet : zyc Y_J23_sequencedKeySet 0 := ⟨show zcw Y_J23_sequencedKeySet ∈ lw_all from q2543, q189, by decide +kernel, ⟨by decide, by decide⟩, Nat.le_of_ble_eq_true rfl⟩
theorem KS_J23_sequencedKeySet : (parseMethodDescriptor (zyn Y_J23_sequencedKeySet).desc).isSome = true := by decide +kernel
theorem KI_J23_sequencedKeySet : Cond.instanceMethod (zyn Y_J23_sequencedKeySet) ∈ lw_all := q2541
def Y_J23_keySet : ZY := (yJ23_keySet, cJ23_keySet, 1, some (.object "java/util/Set"), none, 5)
theorem K_J23_keySet : zyc Y_J23_keySet 0 := ⟨show zcw Y_J23_keySet ∈ lw_all from q2539, q189, by decide +kernel, ⟨by decide, by decide⟩, Nat.le_of_ble_eq_true rfl⟩
theorem KS_J23_keySet : (parseMethodDescriptor (zyn Y_J23_keySet).desc).isSome = true := by decide +kernel
theorem KI_J23_keySet : Cond.instanceMethod (zyn Y_J23_keySet) ∈ lw_all := q2538
def Y_J19_iterator : ZY := (yJ19_iterator, cJ19_iterator, 1, some (.object "java/util/Iterator"), none, 6)
theorem K_J19_iterator : zyc Y_J19_iterator 0 := ⟨show zcw Y_J19_iterator ∈ lw_all from q2532, q185, by decide +kernel, ⟨by decide, by decide⟩, Nat.le_of_ble_eq_true rfl⟩
theorem KS_J19_iterator : (parseMethodDescriptor (zyn Y_J19_iterator).desc).isSome = true := by decide +kernel
theorem KI_J19_iterator : Cond.instanceMethod (zyn Y_J19_iterator) ∈ lw_all := q2530
def Y_J43_hasNext : ZY := (yJ43_hasNext, cJ43_hasNext, 1, some (.boolean), none, 1)
theorem K_J43_hasNext : zyc Y_J43_hasNext 0 := ⟨show zcw Y_J43_hasNext ∈ lw_all from q2098, q219, by decide +kernel, ⟨by decide, by decide⟩, Nat.le_of_ble_eq_true rfl⟩
theorem KS_J43_hasNext : (parseMethodDescriptor (zyn Y_J43_hasNext).desc).isSome = true := by decide +kernel
theorem KI_J43_hasNext : Cond.instanceMethod (zyn Y_J43_hasNext) ∈ lw_all := q2096
def Y_J36_getKey : ZY := (yJ36_getKey, cJ36_getKey, 1, some (.object "java/lang/Object"), none, 1)
theorem K_J36_getKey : zyc Y_J36_getKey 0 := ⟨show zcw Y_J36_getKey ∈ lw_all from q2178, q212, by decide +kernel, ⟨by decide, by decide⟩, Nat.le_of_ble_eq_true rfl⟩
theorem KS_J36_getKey : (parseMethodDescriptor (zyn Y_J36_getKey).desc).isSome = true := by decide +kernel
theorem KI_J36_getKey : Cond.instanceMethod (zyn Y_J36_getKey) ∈ lw_all := q2177
def Y_J43_nextNode : ZY := (yJ43_nextNode, cJ43_nextNode, 2, some (.object "java/util/LinkedHashMap$Entry"), none, 1)
theorem K_J43_nextNode : zyc Y_J43_nextNode 0 := ⟨show zcw Y_J43_nextNode ∈ lw_all from q2163, q219, by decide +kernel, ⟨by decide, by decide⟩, Nat.le_of_ble_eq_true rfl⟩
theorem KS_J43_nextNode : (parseMethodDescriptor (zyn Y_J43_nextNode).desc).isSome = true := by decide +kernel
theorem KI_J43_nextNode : Cond.instanceMethod (zyn Y_J43_nextNode) ∈ lw_all := q2162
def Y_J45_next : ZY := (yJ45_next, cJ45_next, 1, some (.object "java/lang/Object"), none, 2)
theorem K_J45_next : zyc Y_J45_next 0 := ⟨show zcw Y_J45_next ∈ lw_all from q2168, q221, by decide +kernel, ⟨by decide, by decide⟩, Nat.le_of_ble_eq_true rfl⟩
theorem KS_J45_next : (parseMethodDescriptor (zyn Y_J45_next).desc).isSome = true := by decide +kernel
theorem KI_J45_next : Cond.instanceMethod (zyn Y_J45_next) ∈ lw_all := q2166
def Y_J0_addAll : ZY := (yJ0_addAll, cJ0_addAll, 5, some (.boolean), none, 7)
theorem K_J0_addAll : zyc Y_J0_addAll 1 := ⟨show zcw Y_J0_addAll ∈ lw_all from q2390, q165, by decide +kernel, ⟨by decide, by decide⟩, Nat.le_of_ble_eq_true rfl⟩
theorem KS_J0_addAll : (parseMethodDescriptor (zyn Y_J0_addAll).desc).isSome = true := by decide +kernel
theorem KI_J0_addAll : Cond.instanceMethod (zyn Y_J0_addAll) ∈ lw_all := q2389
def Y_J33_hasNext : ZY := (yJ33_hasNext, cJ33_hasNext, 1, some (.boolean), none, 1)
theorem K_J33_hasNext : zyc Y_J33_hasNext 0 := ⟨show zcw Y_J33_hasNext ∈ lw_all from q2083, q205, by decide +kernel, ⟨by decide, by decide⟩, Nat.le_of_ble_eq_true rfl⟩
theorem KS_J33_hasNext : (parseMethodDescriptor (zyn Y_J33_hasNext).desc).isSome = true := by decide +kernel
theorem KI_J33_hasNext : Cond.instanceMethod (zyn Y_J33_hasNext) ∈ lw_all := q2081
def Y_J33_checkForComodification : ZY := (yJ33_checkForComodification, cJ33_checkForComodification, 1, none, none, 1)
theorem K_J33_checkForComodification : zyc Y_J33_checkForComodification 0 := ⟨show zcw Y_J33_checkForComodification ∈ lw_all from q2125, q205, by decide +kernel, ⟨by decide, by decide⟩, Nat.le_of_ble_eq_true rfl⟩
theorem KS_J33_checkForComodification : (parseMethodDescriptor (zyn Y_J33_checkForComodification).desc).isSome = true := by decide +kernel
theorem KI_J33_checkForComodification : Cond.instanceMethod (zyn Y_J33_checkForComodification) ∈ lw_all := q2123
def Y_J33_next : ZY := (yJ33_next, cJ33_next, 3, some (.object "java/lang/Object"), none, 2)
theorem K_J33_next : zyc Y_J33_next 0 := ⟨show zcw Y_J33_next ∈ lw_all from q2121, q205, by decide +kernel, ⟨by decide, by decide⟩, Nat.le_of_ble_eq_true rfl⟩
theorem KS_J33_next : (parseMethodDescriptor (zyn Y_J33_next).desc).isSome = true := by decide +kernel
theorem KI_J33_next : Cond.instanceMethod (zyn Y_J33_next) ∈ lw_all := q2119
def Y_J33_init : ZY := (yJ33_init, cJ33_init, 2, none, none, 1)
theorem K_J33_init : zyc Y_J33_init 1 := ⟨show zcw Y_J33_init ∈ lw_all from q2053, q205, by decide +kernel, ⟨by decide, by decide⟩, Nat.le_of_ble_eq_true rfl⟩
theorem KS_J33_init : (parseMethodDescriptor (zyn Y_J33_init).desc).isSome = true := by decide +kernel
theorem KI_J33_init : Cond.instanceMethod (zyn Y_J33_init) ∈ lw_all := q2052
def Y_J2_iterator : ZY := (yJ2_iterator, cJ2_iterator, 1, some (.object "java/util/Iterator"), none, 2)
theorem K_J2_iterator : zyc Y_J2_iterator 0 := ⟨show zcw Y_J2_iterator ∈ lw_all from q2048, q167, by decide +kernel, ⟨by decide, by decide⟩, Nat.le_of_ble_eq_true rfl⟩
theorem KS_J2_iterator : (parseMethodDescriptor (zyn Y_J2_iterator).desc).isSome = true := by decide +kernel
theorem KI_J2_iterator : Cond.instanceMethod (zyn Y_J2_iterator) ∈ lw_all := q2046
def Y_J40_nextNode : ZY := (yJ40_nextNode, cJ40_nextNode, 3, some (.object "java/util/HashMap$Node"), none, 1)
theorem K_J40_nextNode : zyc Y_J40_nextNode 0 := ⟨show zcw Y_J40_nextNode ∈ lw_all from q2140, q216, by decide +kernel, ⟨by decide, by decide⟩, Nat.le_of_ble_eq_true rfl⟩
theorem KS_J40_nextNode : (parseMethodDescriptor (zyn Y_J40_nextNode).desc).isSome = true := by decide +kernel
theorem KI_J40_nextNode : Cond.instanceMethod (zyn Y_J40_nextNode) ∈ lw_all := q2139
def Y_J41_next_2 : ZY := (yJ41_next_2, cJ41_next_2, 1, some (.object "java/util/Map$Entry"), none, 2)
theorem K_J41_next_2 : zyc Y_J41_next_2 0 := ⟨show zcw Y_J41_next_2 ∈ lw_all from q2134, q217, by decide +kernel, ⟨by decide, by decide⟩, Nat.le_of_ble_eq_true rfl⟩
theorem KS_J41_next_2 : (parseMethodDescriptor (zyn Y_J41_next_2).desc).isSome = true := by decide +kernel
theorem KI_J41_next_2 : Cond.instanceMethod (zyn Y_J41_next_2) ∈ lw_all := q2132
def Y_J41_next : ZY := (yJ41_next, cJ41_next, 1, some (.object "java/lang/Object"), none, 3)
theorem K_J41_next : zyc Y_J41_next 0 := ⟨show zcw Y_J41_next ∈ lw_all from q2130, q217, by decide +kernel, ⟨by decide, by decide⟩, Nat.le_of_ble_eq_true rfl⟩
theorem KS_J41_next : (parseMethodDescriptor (zyn Y_J41_next).desc).isSome = true := by decide +kernel
theorem KI_J41_next : Cond.instanceMethod (zyn Y_J41_next) ∈ lw_all := q2128
def Y_J40_init : ZY := (yJ40_init, cJ40_init, 3, none, none, 1)
theorem K_J40_init : zyc Y_J40_init 1 := ⟨show zcw Y_J40_init ∈ lw_all from q2442, q216, by decide +kernel, ⟨by decide, by decide⟩, Nat.le_of_ble_eq_true rfl⟩
theorem KS_J40_init : (parseMethodDescriptor (zyn Y_J40_init).desc).isSome = true := by decide +kernel
theorem KI_J40_init : Cond.instanceMethod (zyn Y_J40_init) ∈ lw_all := q2441
def Y_J41_init : ZY := (yJ41_init, cJ41_init, 2, none, none, 2)
theorem K_J41_init : zyc Y_J41_init 1 := ⟨show zcw Y_J41_init ∈ lw_all from q2439, q217, by decide +kernel, ⟨by decide, by decide⟩, Nat.le_of_ble_eq_true rfl⟩
theorem KS_J41_init : (parseMethodDescriptor (zyn Y_J41_init).desc).isSome = true := by decide +kernel
theorem KI_J41_init : Cond.instanceMethod (zyn Y_J41_init) ∈ lw_all := q2438
def Y_J49_iterator : ZY := (yJ49_iterator, cJ49_iterator, 1, some (.object "java/util/Iterator"), none, 3)
theorem K_J49_iterator : zyc Y_J49_iterator 0 := ⟨show zcw Y_J49_iterator ∈ lw_all from q2434, q226, by decide +kernel, ⟨by decide, by decide⟩, Nat.le_of_ble_eq_true rfl⟩
theorem KS_J49_iterator : (parseMethodDescriptor (zyn Y_J49_iterator).desc).isSome = true := by decide +kernel
theorem KI_J49_iterator : Cond.instanceMethod (zyn Y_J49_iterator) ∈ lw_all := q2432
def Y_J40_hasNext : ZY := (yJ40_hasNext, cJ40_hasNext, 1, some (.boolean), none, 1)
theorem K_J40_hasNext : zyc Y_J40_hasNext 0 := ⟨show zcw Y_J40_hasNext ∈ lw_all from q2089, q216, by decide +kernel, ⟨by decide, by decide⟩, Nat.le_of_ble_eq_true rfl⟩
theorem KS_J40_hasNext : (parseMethodDescriptor (zyn Y_J40_hasNext).desc).isSome = true := by decide +kernel
theorem KI_J40_hasNext : Cond.instanceMethod (zyn Y_J40_hasNext) ∈ lw_all := q2087
def Y_J36_getValue : ZY := (yJ36_getValue, cJ36_getValue, 1, some (.object "java/lang/Object"), none, 1)
theorem K_J36_getValue : zyc Y_J36_getValue 0 := ⟨show zcw Y_J36_getValue ∈ lw_all from q2935, q212, by decide +kernel, ⟨by decide, by decide⟩, Nat.le_of_ble_eq_true rfl⟩
theorem KS_J36_getValue : (parseMethodDescriptor (zyn Y_J36_getValue).desc).isSome = true := by decide +kernel
theorem KI_J36_getValue : Cond.instanceMethod (zyn Y_J36_getValue) ∈ lw_all := q2933
def Y_J49_init : ZY := (yJ49_init, cJ49_init, 2, none, none, 3)
theorem K_J49_init : zyc Y_J49_init 1 := ⟨show zcw Y_J49_init ∈ lw_all from q2878, q226, by decide +kernel, ⟨by decide, by decide⟩, Nat.le_of_ble_eq_true rfl⟩
theorem KS_J49_init : (parseMethodDescriptor (zyn Y_J49_init).desc).isSome = true := by decide +kernel
theorem KI_J49_init : Cond.instanceMethod (zyn Y_J49_init) ∈ lw_all := q2877
def Y_J22_entrySet : ZY := (yJ22_entrySet, cJ22_entrySet, 2, some (.object "java/util/Set"), none, 4)
theorem K_J22_entrySet : zyc Y_J22_entrySet 0 := ⟨show zcw Y_J22_entrySet ∈ lw_all from q2873, q188, by decide +kernel, ⟨by decide, by decide⟩, Nat.le_of_ble_eq_true rfl⟩
theorem KS_J22_entrySet : (parseMethodDescriptor (zyn Y_J22_entrySet).desc).isSome = true := by decide +kernel
theorem KI_J22_entrySet : Cond.instanceMethod (zyn Y_J22_entrySet) ∈ lw_all := q2871
def Y_J22_afterNodeAccess : ZY := (yJ22_afterNodeAccess, cJ22_afterNodeAccess, 2, none, none, 1)
theorem K_J22_afterNodeAccess : zyc Y_J22_afterNodeAccess 1 := ⟨show zcw Y_J22_afterNodeAccess ∈ lw_all from q2799, q188, by decide +kernel, ⟨by decide, by decide⟩, Nat.le_of_ble_eq_true rfl⟩
theorem KS_J22_afterNodeAccess : (parseMethodDescriptor (zyn Y_J22_afterNodeAccess).desc).isSome = true := by decide +kernel
theorem KI_J22_afterNodeAccess : Cond.instanceMethod (zyn Y_J22_afterNodeAccess) ∈ lw_all := q2793
def Y_J22_afterNodeInsertion : ZY := (yJ22_afterNodeInsertion, cJ22_afterNodeInsertion, 2, none, none, 1)
theorem K_J22_afterNodeInsertion : zyc Y_J22_afterNodeInsertion 1 := ⟨show zcw Y_J22_afterNodeInsertion ∈ lw_all from q2811, q188, by decide +kernel, ⟨by decide, by decide⟩, Nat.le_of_ble_eq_true rfl⟩
theorem KS_J22_afterNodeInsertion : (parseMethodDescriptor (zyn Y_J22_afterNodeInsertion).desc).isSome = true := by decide +kernel
theorem KI_J22_afterNodeInsertion : Cond.instanceMethod (zyn Y_J22_afterNodeInsertion) ∈ lw_all := q2801
def Y_J22_newNode : ZY := (yJ22_newNode, cJ22_newNode, 5, some (.object "java/util/HashMap$Node"), none, 2)
theorem K_J22_newNode : zyc Y_J22_newNode 4 := ⟨show zcw Y_J22_newNode ∈ lw_all from q2734, q188, by decide +kernel, ⟨by decide, by decide⟩, Nat.le_of_ble_eq_true rfl⟩
theorem KS_J22_newNode : (parseMethodDescriptor (zyn Y_J22_newNode).desc).isSome = true := by decide +kernel
theorem KI_J22_newNode : Cond.instanceMethod (zyn Y_J22_newNode) ∈ lw_all := q2724
def Y_J22_size : ZY := (yJ22_size, cJ22_size, 1, some (.int), none, 1)
theorem K_J22_size : zyc Y_J22_size 0 := ⟨show zcw Y_J22_size ∈ lw_all from q2834, q188, by decide +kernel, ⟨by decide, by decide⟩, Nat.le_of_ble_eq_true rfl⟩
theorem KS_J22_size : (parseMethodDescriptor (zyn Y_J22_size).desc).isSome = true := by decide +kernel
theorem KI_J22_size : Cond.instanceMethod (zyn Y_J22_size) ∈ lw_all := q2832
def Y_J22_putMapEntries : ZY := (yJ22_putMapEntries, cJ22_putMapEntries, 8, none, none, 6)
theorem K_J22_putMapEntries : zyc Y_J22_putMapEntries 2 := ⟨show zcw Y_J22_putMapEntries ∈ lw_all from q2824, q188, by decide +kernel, ⟨by decide, by decide⟩, Nat.le_of_ble_eq_true rfl⟩
theorem KS_J22_putMapEntries : (parseMethodDescriptor (zyn Y_J22_putMapEntries).desc).isSome = true := by decide +kernel
theorem KI_J22_putMapEntries : Cond.instanceMethod (zyn Y_J22_putMapEntries) ∈ lw_all := q2820
def Y_J22_putAll : ZY := (yJ22_putAll, cJ22_putAll, 2, none, none, 7)
theorem K_J22_putAll : zyc Y_J22_putAll 1 := ⟨show zcw Y_J22_putAll ∈ lw_all from q2818, q188, by decide +kernel, ⟨by decide, by decide⟩, Nat.le_of_ble_eq_true rfl⟩
theorem KS_J22_putAll : (parseMethodDescriptor (zyn Y_J22_putAll).desc).isSome = true := by decide +kernel
theorem KI_J22_putAll : Cond.instanceMethod (zyn Y_J22_putAll) ∈ lw_all := q2814
def Y_X2_copy : ZY := (yX2_copy, cX2_copy, 4, some (.object "EchoFair$State"), none, 8)
theorem K_X2_copy : zyc Y_X2_copy 0 := ⟨show zcw Y_X2_copy ∈ lw_all from q2353, q164, by decide +kernel, ⟨by decide, by decide⟩, Nat.le_of_ble_eq_true rfl⟩
theorem KS_X2_copy : (parseMethodDescriptor (zyn Y_X2_copy).desc).isSome = true := by decide +kernel
theorem KI_X2_copy : Cond.instanceMethod (zyn Y_X2_copy) ∈ lw_all := q2351
def Y_X1_execute : ZY := (yX1_execute, cX1_execute, 4, some (.int), (some [(2, 24, 27, 10)]), 15)
theorem K_X1_execute : zyc Y_X1_execute 2 := ⟨show zcw Y_X1_execute ∈ lw_all from q3457, q163, by decide +kernel, ⟨by decide, by decide⟩, Nat.le_of_ble_eq_true rfl⟩
theorem KS_X1_execute : (parseMethodDescriptor (zyn Y_X1_execute).desc).isSome = true := by decide +kernel
theorem KT_X1_execute : Cond.static (zyn Y_X1_execute) ∈ lw_all := q3456
def Y_J31_inc : ZY := (yJ31_inc, cJ31_inc, 2, some (.int), none, 1)
theorem K_J31_inc : zyc Y_J31_inc 2 := ⟨show zcw Y_J31_inc ∈ lw_all from q2116, q199, by decide +kernel, ⟨by decide, by decide⟩, Nat.le_of_ble_eq_true rfl⟩
theorem KS_J31_inc : (parseMethodDescriptor (zyn Y_J31_inc).desc).isSome = true := by decide +kernel
theorem KT_J31_inc : Cond.static (zyn Y_J31_inc) ∈ lw_all := q2115
def Y_J31_addLast : ZY := (yJ31_addLast, cJ31_addLast, 3, none, none, 2)
theorem K_J31_addLast : zyc Y_J31_addLast 1 := ⟨show zcw Y_J31_addLast ∈ lw_all from q2285, q199, by decide +kernel, ⟨by decide, by decide⟩, Nat.le_of_ble_eq_true rfl⟩
theorem KS_J31_addLast : (parseMethodDescriptor (zyn Y_J31_addLast).desc).isSome = true := by decide +kernel
theorem KI_J31_addLast : Cond.instanceMethod (zyn Y_J31_addLast) ∈ lw_all := q2283
def Y_J31_elementAt : ZY := (yJ31_elementAt, cJ31_elementAt, 2, some (.object "java/lang/Object"), none, 1)
theorem K_J31_elementAt : zyc Y_J31_elementAt 2 := ⟨show zcw Y_J31_elementAt ∈ lw_all from q2318, q199, by decide +kernel, ⟨by decide, by decide⟩, Nat.le_of_ble_eq_true rfl⟩
theorem KS_J31_elementAt : (parseMethodDescriptor (zyn Y_J31_elementAt).desc).isSome = true := by decide +kernel
theorem KT_J31_elementAt : Cond.static (zyn Y_J31_elementAt) ∈ lw_all := q2317
def Y_J31_pollFirst : ZY := (yJ31_pollFirst, cJ31_pollFirst, 4, some (.object "java/lang/Object"), none, 2)
theorem K_J31_pollFirst : zyc Y_J31_pollFirst 0 := ⟨show zcw Y_J31_pollFirst ∈ lw_all from q2315, q199, by decide +kernel, ⟨by decide, by decide⟩, Nat.le_of_ble_eq_true rfl⟩
theorem KS_J31_pollFirst : (parseMethodDescriptor (zyn Y_J31_pollFirst).desc).isSome = true := by decide +kernel
theorem KI_J31_pollFirst : Cond.instanceMethod (zyn Y_J31_pollFirst) ∈ lw_all := q2313
def Y_J31_removeFirst : ZY := (yJ31_removeFirst, cJ31_removeFirst, 2, some (.object "java/lang/Object"), none, 3)
theorem K_J31_removeFirst : zyc Y_J31_removeFirst 0 := ⟨show zcw Y_J31_removeFirst ∈ lw_all from q2311, q199, by decide +kernel, ⟨by decide, by decide⟩, Nat.le_of_ble_eq_true rfl⟩
theorem KS_J31_removeFirst : (parseMethodDescriptor (zyn Y_J31_removeFirst).desc).isSome = true := by decide +kernel
theorem KI_J31_removeFirst : Cond.instanceMethod (zyn Y_J31_removeFirst) ∈ lw_all := q2309
def Y_J31_sub : ZY := (yJ31_sub, cJ31_sub, 3, some (.int), none, 1)
theorem K_J31_sub : zyc Y_J31_sub 3 := ⟨show zcw Y_J31_sub ∈ lw_all from q2413, q199, by decide +kernel, ⟨by decide, by decide⟩, Nat.le_of_ble_eq_true rfl⟩
theorem KS_J31_sub : (parseMethodDescriptor (zyn Y_J31_sub).desc).isSome = true := by decide +kernel
theorem KT_J31_sub : Cond.static (zyn Y_J31_sub) ∈ lw_all := q2412
def Y_J31_size : ZY := (yJ31_size, cJ31_size, 1, some (.int), none, 2)
theorem K_J31_size : zyc Y_J31_size 0 := ⟨show zcw Y_J31_size ∈ lw_all from q2410, q199, by decide +kernel, ⟨by decide, by decide⟩, Nat.le_of_ble_eq_true rfl⟩
theorem KS_J31_size : (parseMethodDescriptor (zyn Y_J31_size).desc).isSome = true := by decide +kernel
theorem KI_J31_size : Cond.instanceMethod (zyn Y_J31_size) ∈ lw_all := q2408
def Y_X1_record : ZY := (yX1_record, cX1_record, 3, none, none, 4)
theorem K_X1_record : zyc Y_X1_record 1 := ⟨show zcw Y_X1_record ∈ lw_all from q2947, q163, by decide +kernel, ⟨by decide, by decide⟩, Nat.le_of_ble_eq_true rfl⟩
theorem KS_X1_record : (parseMethodDescriptor (zyn Y_X1_record).desc).isSome = true := by decide +kernel
theorem KI_X1_record : Cond.instanceMethod (zyn Y_X1_record) ∈ lw_all := q2946
def Y_X1_executeCommands : ZY := (yX1_executeCommands, cX1_executeCommands, 4, some (.int), (some [(0, 12, 20, 167), (0, 12, 27, 0), (20, 28, 27, 0)]), 16)
theorem K_X1_executeCommands : zyc Y_X1_executeCommands 0 := ⟨show zcw Y_X1_executeCommands ∈ lw_all from q3282, q163, by decide +kernel, ⟨by decide, by decide⟩, Nat.le_of_ble_eq_true rfl⟩
theorem KS_X1_executeCommands : (parseMethodDescriptor (zyn Y_X1_executeCommands).desc).isSome = true := by decide +kernel
theorem KI_X1_executeCommands : Cond.instanceMethod (zyn Y_X1_executeCommands) ∈ lw_all := q3280
def Y_X0_executeCommands : ZY := (yX0_executeCommands, cX0_executeCommands, 3, some (.int), (some [(0, 8, 11, 19)]), 17)
theorem K_X0_executeCommands : zyc Y_X0_executeCommands 2 := ⟨show zcw Y_X0_executeCommands ∈ lw_all from q3278, q162, by decide +kernel, ⟨by decide, by decide⟩, Nat.le_of_ble_eq_true rfl⟩
theorem KS_X0_executeCommands : (parseMethodDescriptor (zyn Y_X0_executeCommands).desc).isSome = true := by decide +kernel
theorem KT_X0_executeCommands : Cond.static (zyn Y_X0_executeCommands) ∈ lw_all := q3277
def Y_X2_fog : ZY := (yX2_fog, cX2_fog, 2, some (.int), none, 1)
theorem K_X2_fog : zyc Y_X2_fog 1 := ⟨show zcw Y_X2_fog ∈ lw_all from q3392, q164, by decide +kernel, ⟨by decide, by decide⟩, Nat.le_of_ble_eq_true rfl⟩
theorem KS_X2_fog : (parseMethodDescriptor (zyn Y_X2_fog).desc).isSome = true := by decide +kernel
theorem KI_X2_fog : Cond.instanceMethod (zyn Y_X2_fog) ∈ lw_all := q3390
def Y_X1_fogOf : ZY := (yX1_fogOf, cX1_fogOf, 2, some (.int), none, 7)
theorem K_X1_fogOf : zyc Y_X1_fogOf 1 := ⟨show zcw Y_X1_fogOf ∈ lw_all from q3464, q163, by decide +kernel, ⟨by decide, by decide⟩, Nat.le_of_ble_eq_true rfl⟩
theorem KS_X1_fogOf : (parseMethodDescriptor (zyn Y_X1_fogOf).desc).isSome = true := by decide +kernel
theorem KI_X1_fogOf : Cond.instanceMethod (zyn Y_X1_fogOf) ∈ lw_all := q3462
def Y_X0_fogOf : ZY := (yX0_fogOf, cX0_fogOf, 4, some (.int), (some [(0, 9, 12, 19)]), 8)
theorem K_X0_fogOf : zyc Y_X0_fogOf 3 := ⟨show zcw Y_X0_fogOf ∈ lw_all from q3460, q162, by decide +kernel, ⟨by decide, by decide⟩, Nat.le_of_ble_eq_true rfl⟩
theorem KS_X0_fogOf : (parseMethodDescriptor (zyn Y_X0_fogOf).desc).isSome = true := by decide +kernel
theorem KT_X0_fogOf : Cond.static (zyn Y_X0_fogOf) ∈ lw_all := q3459
def Y_X1_checkIndex : ZY := (yX1_checkIndex, cX1_checkIndex, 1, none, none, 6)
theorem K_X1_checkIndex : zyc Y_X1_checkIndex 1 := ⟨show zcw Y_X1_checkIndex ∈ lw_all from q3483, q163, by decide +kernel, ⟨by decide, by decide⟩, Nat.le_of_ble_eq_true rfl⟩
theorem KS_X1_checkIndex : (parseMethodDescriptor (zyn Y_X1_checkIndex).desc).isSome = true := by decide +kernel
theorem KT_X1_checkIndex : Cond.static (zyn Y_X1_checkIndex) ∈ lw_all := q3482
def Y_X1_echoAt : ZY := (yX1_echoAt, cX1_echoAt, 2, some (.object "EchoFair$Echo"), none, 7)
theorem K_X1_echoAt : zyc Y_X1_echoAt 1 := ⟨show zcw Y_X1_echoAt ∈ lw_all from q3480, q163, by decide +kernel, ⟨by decide, by decide⟩, Nat.le_of_ble_eq_true rfl⟩
theorem KS_X1_echoAt : (parseMethodDescriptor (zyn Y_X1_echoAt).desc).isSome = true := by decide +kernel
theorem KI_X1_echoAt : Cond.instanceMethod (zyn Y_X1_echoAt) ∈ lw_all := q3479
def Y_X1_delayOf : ZY := (yX1_delayOf, cX1_delayOf, 2, some (.int), none, 8)
theorem K_X1_delayOf : zyc Y_X1_delayOf 1 := ⟨show zcw Y_X1_delayOf ∈ lw_all from q3476, q163, by decide +kernel, ⟨by decide, by decide⟩, Nat.le_of_ble_eq_true rfl⟩
theorem KS_X1_delayOf : (parseMethodDescriptor (zyn Y_X1_delayOf).desc).isSome = true := by decide +kernel
theorem KI_X1_delayOf : Cond.instanceMethod (zyn Y_X1_delayOf) ∈ lw_all := q3474
def Y_X0_delayOf : ZY := (yX0_delayOf, cX0_delayOf, 4, some (.int), (some [(0, 9, 12, 34)]), 9)
theorem K_X0_delayOf : zyc Y_X0_delayOf 3 := ⟨show zcw Y_X0_delayOf ∈ lw_all from q3469, q162, by decide +kernel, ⟨by decide, by decide⟩, Nat.le_of_ble_eq_true rfl⟩
theorem KS_X0_delayOf : (parseMethodDescriptor (zyn Y_X0_delayOf).desc).isSome = true := by decide +kernel
theorem KT_X0_delayOf : Cond.static (zyn Y_X0_delayOf) ∈ lw_all := q3468
def Y_X1_repeatsOf : ZY := (yX1_repeatsOf, cX1_repeatsOf, 2, some (.int), none, 8)
theorem K_X1_repeatsOf : zyc Y_X1_repeatsOf 1 := ⟨show zcw Y_X1_repeatsOf ∈ lw_all from q3505, q163, by decide +kernel, ⟨by decide, by decide⟩, Nat.le_of_ble_eq_true rfl⟩
theorem KS_X1_repeatsOf : (parseMethodDescriptor (zyn Y_X1_repeatsOf).desc).isSome = true := by decide +kernel
theorem KI_X1_repeatsOf : Cond.instanceMethod (zyn Y_X1_repeatsOf) ∈ lw_all := q3503
def Y_X0_repeatsOf : ZY := (yX0_repeatsOf, cX0_repeatsOf, 4, some (.int), (some [(0, 9, 12, 34)]), 9)
theorem K_X0_repeatsOf : zyc Y_X0_repeatsOf 3 := ⟨show zcw Y_X0_repeatsOf ∈ lw_all from q3501, q162, by decide +kernel, ⟨by decide, by decide⟩, Nat.le_of_ble_eq_true rfl⟩
theorem KS_X0_repeatsOf : (parseMethodDescriptor (zyn Y_X0_repeatsOf).desc).isSome = true := by decide +kernel
theorem KT_X0_repeatsOf : Cond.static (zyn Y_X0_repeatsOf) ∈ lw_all := q3500
def Y_X1_reserveWage : ZY := (yX1_reserveWage, cX1_reserveWage, 2, some (.int), none, 8)
theorem K_X1_reserveWage : zyc Y_X1_reserveWage 1 := ⟨show zcw Y_X1_reserveWage ∈ lw_all from q3512, q163, by decide +kernel, ⟨by decide, by decide⟩, Nat.le_of_ble_eq_true rfl⟩
theorem KS_X1_reserveWage : (parseMethodDescriptor (zyn Y_X1_reserveWage).desc).isSome = true := by decide +kernel
theorem KI_X1_reserveWage : Cond.instanceMethod (zyn Y_X1_reserveWage) ∈ lw_all := q3510
def Y_X0_reserveWage : ZY := (yX0_reserveWage, cX0_reserveWage, 4, some (.int), (some [(0, 9, 12, 34)]), 9)
theorem K_X0_reserveWage : zyc Y_X0_reserveWage 3 := ⟨show zcw Y_X0_reserveWage ∈ lw_all from q3508, q162, by decide +kernel, ⟨by decide, by decide⟩, Nat.le_of_ble_eq_true rfl⟩
theorem KS_X0_reserveWage : (parseMethodDescriptor (zyn Y_X0_reserveWage).desc).isSome = true := by decide +kernel
theorem KT_X0_reserveWage : Cond.static (zyn Y_X0_reserveWage) ∈ lw_all := q3507
def Y_X1_resistanceOf : ZY := (yX1_resistanceOf, cX1_resistanceOf, 2, some (.int), none, 8)
theorem K_X1_resistanceOf : zyc Y_X1_resistanceOf 1 := ⟨show zcw Y_X1_resistanceOf ∈ lw_all from q3519, q163, by decide +kernel, ⟨by decide, by decide⟩, Nat.le_of_ble_eq_true rfl⟩
theorem KS_X1_resistanceOf : (parseMethodDescriptor (zyn Y_X1_resistanceOf).desc).isSome = true := by decide +kernel
theorem KI_X1_resistanceOf : Cond.instanceMethod (zyn Y_X1_resistanceOf) ∈ lw_all := q3517
def Y_X0_resistanceOf : ZY := (yX0_resistanceOf, cX0_resistanceOf, 4, some (.int), (some [(0, 9, 12, 34)]), 9)
theorem K_X0_resistanceOf : zyc Y_X0_resistanceOf 3 := ⟨show zcw Y_X0_resistanceOf ∈ lw_all from q3515, q162, by decide +kernel, ⟨by decide, by decide⟩, Nat.le_of_ble_eq_true rfl⟩
theorem KS_X0_resistanceOf : (parseMethodDescriptor (zyn Y_X0_resistanceOf).desc).isSome = true := by decide +kernel
theorem KT_X0_resistanceOf : Cond.static (zyn Y_X0_resistanceOf) ∈ lw_all := q3514
def Y_X1_savingsOf : ZY := (yX1_savingsOf, cX1_savingsOf, 2, some (.int), none, 8)
theorem K_X1_savingsOf : zyc Y_X1_savingsOf 1 := ⟨show zcw Y_X1_savingsOf ∈ lw_all from q3526, q163, by decide +kernel, ⟨by decide, by decide⟩, Nat.le_of_ble_eq_true rfl⟩
theorem KS_X1_savingsOf : (parseMethodDescriptor (zyn Y_X1_savingsOf).desc).isSome = true := by decide +kernel
theorem KI_X1_savingsOf : Cond.instanceMethod (zyn Y_X1_savingsOf) ∈ lw_all := q3524
def Y_X0_savingsOf : ZY := (yX0_savingsOf, cX0_savingsOf, 4, some (.int), (some [(0, 9, 12, 34)]), 9)
theorem K_X0_savingsOf : zyc Y_X0_savingsOf 3 := ⟨show zcw Y_X0_savingsOf ∈ lw_all from q3522, q162, by decide +kernel, ⟨by decide, by decide⟩, Nat.le_of_ble_eq_true rfl⟩
theorem KS_X0_savingsOf : (parseMethodDescriptor (zyn Y_X0_savingsOf).desc).isSome = true := by decide +kernel
theorem KT_X0_savingsOf : Cond.static (zyn Y_X0_savingsOf) ∈ lw_all := q3521
def Y_X1_unpaidDays : ZY := (yX1_unpaidDays, cX1_unpaidDays, 2, some (.int), none, 8)
theorem K_X1_unpaidDays : zyc Y_X1_unpaidDays 1 := ⟨show zcw Y_X1_unpaidDays ∈ lw_all from q3533, q163, by decide +kernel, ⟨by decide, by decide⟩, Nat.le_of_ble_eq_true rfl⟩
theorem KS_X1_unpaidDays : (parseMethodDescriptor (zyn Y_X1_unpaidDays).desc).isSome = true := by decide +kernel
theorem KI_X1_unpaidDays : Cond.instanceMethod (zyn Y_X1_unpaidDays) ∈ lw_all := q3531
def Y_X0_unpaidDays : ZY := (yX0_unpaidDays, cX0_unpaidDays, 4, some (.int), (some [(0, 9, 12, 34)]), 9)
theorem K_X0_unpaidDays : zyc Y_X0_unpaidDays 3 := ⟨show zcw Y_X0_unpaidDays ∈ lw_all from q3529, q162, by decide +kernel, ⟨by decide, by decide⟩, Nat.le_of_ble_eq_true rfl⟩
theorem KS_X0_unpaidDays : (parseMethodDescriptor (zyn Y_X0_unpaidDays).desc).isSome = true := by decide +kernel
theorem KT_X0_unpaidDays : Cond.static (zyn Y_X0_unpaidDays) ∈ lw_all := q3528
def Y_X1_employerOf : ZY := (yX1_employerOf, cX1_employerOf, 2, some (.int), none, 8)
theorem K_X1_employerOf : zyc Y_X1_employerOf 1 := ⟨show zcw Y_X1_employerOf ∈ lw_all from q3540, q163, by decide +kernel, ⟨by decide, by decide⟩, Nat.le_of_ble_eq_true rfl⟩
theorem KS_X1_employerOf : (parseMethodDescriptor (zyn Y_X1_employerOf).desc).isSome = true := by decide +kernel
theorem KI_X1_employerOf : Cond.instanceMethod (zyn Y_X1_employerOf) ∈ lw_all := q3538
def Y_X0_employerOf : ZY := (yX0_employerOf, cX0_employerOf, 4, some (.int), (some [(0, 9, 12, 34)]), 9)
theorem K_X0_employerOf : zyc Y_X0_employerOf 3 := ⟨show zcw Y_X0_employerOf ∈ lw_all from q3536, q162, by decide +kernel, ⟨by decide, by decide⟩, Nat.le_of_ble_eq_true rfl⟩
theorem KS_X0_employerOf : (parseMethodDescriptor (zyn Y_X0_employerOf).desc).isSome = true := by decide +kernel
theorem KT_X0_employerOf : Cond.static (zyn Y_X0_employerOf) ∈ lw_all := q3535
def Y_X1_valleyAt : ZY := (yX1_valleyAt, cX1_valleyAt, 2, some (.object "EchoFair$Valley"), none, 7)
theorem K_X1_valleyAt : zyc Y_X1_valleyAt 1 := ⟨show zcw Y_X1_valleyAt ∈ lw_all from q3551, q163, by decide +kernel, ⟨by decide, by decide⟩, Nat.le_of_ble_eq_true rfl⟩
theorem KS_X1_valleyAt : (parseMethodDescriptor (zyn Y_X1_valleyAt).desc).isSome = true := by decide +kernel
theorem KI_X1_valleyAt : Cond.instanceMethod (zyn Y_X1_valleyAt) ∈ lw_all := q3550
def Y_X1_widthOf : ZY := (yX1_widthOf, cX1_widthOf, 2, some (.int), none, 8)
theorem K_X1_widthOf : zyc Y_X1_widthOf 1 := ⟨show zcw Y_X1_widthOf ∈ lw_all from q3547, q163, by decide +kernel, ⟨by decide, by decide⟩, Nat.le_of_ble_eq_true rfl⟩
theorem KS_X1_widthOf : (parseMethodDescriptor (zyn Y_X1_widthOf).desc).isSome = true := by decide +kernel
theorem KI_X1_widthOf : Cond.instanceMethod (zyn Y_X1_widthOf) ∈ lw_all := q3545
def Y_X0_widthOf : ZY := (yX0_widthOf, cX0_widthOf, 4, some (.int), (some [(0, 9, 12, 34)]), 9)
theorem K_X0_widthOf : zyc Y_X0_widthOf 3 := ⟨show zcw Y_X0_widthOf ∈ lw_all from q3543, q162, by decide +kernel, ⟨by decide, by decide⟩, Nat.le_of_ble_eq_true rfl⟩
theorem KS_X0_widthOf : (parseMethodDescriptor (zyn Y_X0_widthOf).desc).isSome = true := by decide +kernel
theorem KT_X0_widthOf : Cond.static (zyn Y_X0_widthOf) ∈ lw_all := q3542
def Y_X1_postsOf : ZY := (yX1_postsOf, cX1_postsOf, 2, some (.int), none, 8)
theorem K_X1_postsOf : zyc Y_X1_postsOf 1 := ⟨show zcw Y_X1_postsOf ∈ lw_all from q3558, q163, by decide +kernel, ⟨by decide, by decide⟩, Nat.le_of_ble_eq_true rfl⟩
theorem KS_X1_postsOf : (parseMethodDescriptor (zyn Y_X1_postsOf).desc).isSome = true := by decide +kernel
theorem KI_X1_postsOf : Cond.instanceMethod (zyn Y_X1_postsOf) ∈ lw_all := q3556
def Y_X0_postsOf : ZY := (yX0_postsOf, cX0_postsOf, 4, some (.int), (some [(0, 9, 12, 34)]), 9)
theorem K_X0_postsOf : zyc Y_X0_postsOf 3 := ⟨show zcw Y_X0_postsOf ∈ lw_all from q3554, q162, by decide +kernel, ⟨by decide, by decide⟩, Nat.le_of_ble_eq_true rfl⟩
theorem KS_X0_postsOf : (parseMethodDescriptor (zyn Y_X0_postsOf).desc).isSome = true := by decide +kernel
theorem KT_X0_postsOf : Cond.static (zyn Y_X0_postsOf) ∈ lw_all := q3553
def Y_X1_wageOf : ZY := (yX1_wageOf, cX1_wageOf, 2, some (.int), none, 8)
theorem K_X1_wageOf : zyc Y_X1_wageOf 1 := ⟨show zcw Y_X1_wageOf ∈ lw_all from q3565, q163, by decide +kernel, ⟨by decide, by decide⟩, Nat.le_of_ble_eq_true rfl⟩
theorem KS_X1_wageOf : (parseMethodDescriptor (zyn Y_X1_wageOf).desc).isSome = true := by decide +kernel
theorem KI_X1_wageOf : Cond.instanceMethod (zyn Y_X1_wageOf) ∈ lw_all := q3563
def Y_X0_wageOf : ZY := (yX0_wageOf, cX0_wageOf, 4, some (.int), (some [(0, 9, 12, 34)]), 9)
theorem K_X0_wageOf : zyc Y_X0_wageOf 3 := ⟨show zcw Y_X0_wageOf ∈ lw_all from q3561, q162, by decide +kernel, ⟨by decide, by decide⟩, Nat.le_of_ble_eq_true rfl⟩
theorem KS_X0_wageOf : (parseMethodDescriptor (zyn Y_X0_wageOf).desc).isSome = true := by decide +kernel
theorem KT_X0_wageOf : Cond.static (zyn Y_X0_wageOf) ∈ lw_all := q3560
def Y_X1_purseOf : ZY := (yX1_purseOf, cX1_purseOf, 2, some (.int), none, 8)
theorem K_X1_purseOf : zyc Y_X1_purseOf 1 := ⟨show zcw Y_X1_purseOf ∈ lw_all from q3572, q163, by decide +kernel, ⟨by decide, by decide⟩, Nat.le_of_ble_eq_true rfl⟩
theorem KS_X1_purseOf : (parseMethodDescriptor (zyn Y_X1_purseOf).desc).isSome = true := by decide +kernel
theorem KI_X1_purseOf : Cond.instanceMethod (zyn Y_X1_purseOf) ∈ lw_all := q3570
def Y_X0_purseOf : ZY := (yX0_purseOf, cX0_purseOf, 4, some (.int), (some [(0, 9, 12, 34)]), 9)
theorem K_X0_purseOf : zyc Y_X0_purseOf 3 := ⟨show zcw Y_X0_purseOf ∈ lw_all from q3568, q162, by decide +kernel, ⟨by decide, by decide⟩, Nat.le_of_ble_eq_true rfl⟩
theorem KS_X0_purseOf : (parseMethodDescriptor (zyn Y_X0_purseOf).desc).isSome = true := by decide +kernel
theorem KT_X0_purseOf : Cond.static (zyn Y_X0_purseOf) ∈ lw_all := q3567
def Y_X1_staffCount : ZY := (yX1_staffCount, cX1_staffCount, 2, some (.int), none, 8)
theorem K_X1_staffCount : zyc Y_X1_staffCount 1 := ⟨show zcw Y_X1_staffCount ∈ lw_all from q3579, q163, by decide +kernel, ⟨by decide, by decide⟩, Nat.le_of_ble_eq_true rfl⟩
theorem KS_X1_staffCount : (parseMethodDescriptor (zyn Y_X1_staffCount).desc).isSome = true := by decide +kernel
theorem KI_X1_staffCount : Cond.instanceMethod (zyn Y_X1_staffCount) ∈ lw_all := q3577
def Y_X0_staffCount : ZY := (yX0_staffCount, cX0_staffCount, 4, some (.int), (some [(0, 9, 12, 34)]), 9)
theorem K_X0_staffCount : zyc Y_X0_staffCount 3 := ⟨show zcw Y_X0_staffCount ∈ lw_all from q3575, q162, by decide +kernel, ⟨by decide, by decide⟩, Nat.le_of_ble_eq_true rfl⟩
theorem KS_X0_staffCount : (parseMethodDescriptor (zyn Y_X0_staffCount).desc).isSome = true := by decide +kernel
theorem KT_X0_staffCount : Cond.static (zyn Y_X0_staffCount) ∈ lw_all := q3574
def Y_X1_staffMember : ZY := (yX1_staffMember, cX1_staffMember, 4, some (.int), none, 8)
theorem K_X1_staffMember : zyc Y_X1_staffMember 2 := ⟨show zcw Y_X1_staffMember ∈ lw_all from q3586, q163, by decide +kernel, ⟨by decide, by decide⟩, Nat.le_of_ble_eq_true rfl⟩
theorem KS_X1_staffMember : (parseMethodDescriptor (zyn Y_X1_staffMember).desc).isSome = true := by decide +kernel
theorem KI_X1_staffMember : Cond.instanceMethod (zyn Y_X1_staffMember) ∈ lw_all := q3584
def Y_X0_staffMember : ZY := (yX0_staffMember, cX0_staffMember, 5, some (.int), (some [(0, 10, 13, 34)]), 9)
theorem K_X0_staffMember : zyc Y_X0_staffMember 4 := ⟨show zcw Y_X0_staffMember ∈ lw_all from q3582, q162, by decide +kernel, ⟨by decide, by decide⟩, Nat.le_of_ble_eq_true rfl⟩
theorem KS_X0_staffMember : (parseMethodDescriptor (zyn Y_X0_staffMember).desc).isSome = true := by decide +kernel
theorem KT_X0_staffMember : Cond.static (zyn Y_X0_staffMember) ∈ lw_all := q3581
def Y_X1_checkPair : ZY := (yX1_checkPair, cX1_checkPair, 3, none, none, 7)
theorem K_X1_checkPair : zyc Y_X1_checkPair 2 := ⟨show zcw Y_X1_checkPair ∈ lw_all from q3597, q163, by decide +kernel, ⟨by decide, by decide⟩, Nat.le_of_ble_eq_true rfl⟩
theorem KS_X1_checkPair : (parseMethodDescriptor (zyn Y_X1_checkPair).desc).isSome = true := by decide +kernel
theorem KI_X1_checkPair : Cond.instanceMethod (zyn Y_X1_checkPair) ∈ lw_all := q3596
def Y_X1_isTested : ZY := (yX1_isTested, cX1_isTested, 3, some (.boolean), none, 8)
theorem K_X1_isTested : zyc Y_X1_isTested 2 := ⟨show zcw Y_X1_isTested ∈ lw_all from q3593, q163, by decide +kernel, ⟨by decide, by decide⟩, Nat.le_of_ble_eq_true rfl⟩
theorem KS_X1_isTested : (parseMethodDescriptor (zyn Y_X1_isTested).desc).isSome = true := by decide +kernel
theorem KI_X1_isTested : Cond.instanceMethod (zyn Y_X1_isTested) ∈ lw_all := q3591
def Y_X0_isTested : ZY := (yX0_isTested, cX0_isTested, 5, some (.int), (some [(0, 17, 20, 34)]), 9)
theorem K_X0_isTested : zyc Y_X0_isTested 4 := ⟨show zcw Y_X0_isTested ∈ lw_all from q3589, q162, by decide +kernel, ⟨by decide, by decide⟩, Nat.le_of_ble_eq_true rfl⟩
theorem KS_X0_isTested : (parseMethodDescriptor (zyn Y_X0_isTested).desc).isSome = true := by decide +kernel
theorem KT_X0_isTested : Cond.static (zyn Y_X0_isTested) ∈ lw_all := q3588
def Y_X4_trueScore : ZY := (yX4_trueScore, cX4_trueScore, 2, some (.int), none, 1)
theorem K_X4_trueScore : zyc Y_X4_trueScore 1 := ⟨show zcw Y_X4_trueScore ∈ lw_all from q1584, q198, by decide +kernel, ⟨by decide, by decide⟩, Nat.le_of_ble_eq_true rfl⟩
theorem KS_X4_trueScore : (parseMethodDescriptor (zyn Y_X4_trueScore).desc).isSome = true := by decide +kernel
theorem KI_X4_trueScore : Cond.instanceMethod (zyn Y_X4_trueScore) ∈ lw_all := q1582
def Y_X2_seenScore : ZY := (yX2_seenScore, cX2_seenScore, 3, some (.int), none, 5)
theorem K_X2_seenScore : zyc Y_X2_seenScore 2 := ⟨show zcw Y_X2_seenScore ∈ lw_all from q1580, q164, by decide +kernel, ⟨by decide, by decide⟩, Nat.le_of_ble_eq_true rfl⟩
theorem KS_X2_seenScore : (parseMethodDescriptor (zyn Y_X2_seenScore).desc).isSome = true := by decide +kernel
theorem KI_X2_seenScore : Cond.instanceMethod (zyn Y_X2_seenScore) ∈ lw_all := q1578
def Y_X1_seenScore : ZY := (yX1_seenScore, cX1_seenScore, 3, some (.int), none, 8)
theorem K_X1_seenScore : zyc Y_X1_seenScore 2 := ⟨show zcw Y_X1_seenScore ∈ lw_all from q3604, q163, by decide +kernel, ⟨by decide, by decide⟩, Nat.le_of_ble_eq_true rfl⟩
theorem KS_X1_seenScore : (parseMethodDescriptor (zyn Y_X1_seenScore).desc).isSome = true := by decide +kernel
theorem KI_X1_seenScore : Cond.instanceMethod (zyn Y_X1_seenScore) ∈ lw_all := q3602
def Y_X0_seenScore : ZY := (yX0_seenScore, cX0_seenScore, 5, some (.int), (some [(0, 10, 13, 34)]), 9)
theorem K_X0_seenScore : zyc Y_X0_seenScore 4 := ⟨show zcw Y_X0_seenScore ∈ lw_all from q3600, q162, by decide +kernel, ⟨by decide, by decide⟩, Nat.le_of_ble_eq_true rfl⟩
theorem KS_X0_seenScore : (parseMethodDescriptor (zyn Y_X0_seenScore).desc).isSome = true := by decide +kernel
theorem KT_X0_seenScore : Cond.static (zyn Y_X0_seenScore) ∈ lw_all := q3599
def Y_X9_init : ZY := (yX9_init, cX9_init, 3, none, none, 1)
theorem K_X9_init : zyc Y_X9_init 2 := ⟨show zcw Y_X9_init ∈ lw_all from q1608, q207, by decide +kernel, ⟨by decide, by decide⟩, Nat.le_of_ble_eq_true rfl⟩
theorem KS_X9_init : (parseMethodDescriptor (zyn Y_X9_init).desc).isSome = true := by decide +kernel
theorem KI_X9_init : Cond.instanceMethod (zyn Y_X9_init) ∈ lw_all := q1607
def Y_J22_getNode : ZY := (yJ22_getNode, cJ22_getNode, 8, some (.object "java/util/HashMap$Node"), none, 3)
theorem K_J22_getNode : zyc Y_J22_getNode 1 := ⟨show zcw Y_J22_getNode ∈ lw_all from q1634, q188, by decide +kernel, ⟨by decide, by decide⟩, Nat.le_of_ble_eq_true rfl⟩
theorem KS_J22_getNode : (parseMethodDescriptor (zyn Y_J22_getNode).desc).isSome = true := by decide +kernel
theorem KI_J22_getNode : Cond.instanceMethod (zyn Y_J22_getNode) ∈ lw_all := q1630
def Y_J22_containsKey : ZY := (yJ22_containsKey, cJ22_containsKey, 2, some (.boolean), none, 4)
theorem K_J22_containsKey : zyc Y_J22_containsKey 1 := ⟨show zcw Y_J22_containsKey ∈ lw_all from q1628, q188, by decide +kernel, ⟨by decide, by decide⟩, Nat.le_of_ble_eq_true rfl⟩
theorem KS_J22_containsKey : (parseMethodDescriptor (zyn Y_J22_containsKey).desc).isSome = true := by decide +kernel
theorem KI_J22_containsKey : Cond.instanceMethod (zyn Y_J22_containsKey) ∈ lw_all := q1624
def Y_J19_contains : ZY := (yJ19_contains, cJ19_contains, 2, some (.boolean), none, 5)
theorem K_J19_contains : zyc Y_J19_contains 1 := ⟨show zcw Y_J19_contains ∈ lw_all from q1622, q185, by decide +kernel, ⟨by decide, by decide⟩, Nat.le_of_ble_eq_true rfl⟩
theorem KS_J19_contains : (parseMethodDescriptor (zyn Y_J19_contains).desc).isSome = true := by decide +kernel
theorem KI_J19_contains : Cond.instanceMethod (zyn Y_J19_contains) ∈ lw_all := q1621
def Y_J22_isEmpty : ZY := (yJ22_isEmpty, cJ22_isEmpty, 1, some (.boolean), none, 1)
theorem K_J22_isEmpty : zyc Y_J22_isEmpty 0 := ⟨show zcw Y_J22_isEmpty ∈ lw_all from q1603, q188, by decide +kernel, ⟨by decide, by decide⟩, Nat.le_of_ble_eq_true rfl⟩
theorem KS_J22_isEmpty : (parseMethodDescriptor (zyn Y_J22_isEmpty).desc).isSome = true := by decide +kernel
theorem KI_J22_isEmpty : Cond.instanceMethod (zyn Y_J22_isEmpty) ∈ lw_all := q1599
def Y_J19_isEmpty : ZY := (yJ19_isEmpty, cJ19_isEmpty, 1, some (.boolean), none, 2)
theorem K_J19_isEmpty : zyc Y_J19_isEmpty 0 := ⟨show zcw Y_J19_isEmpty ∈ lw_all from q1597, q185, by decide +kernel, ⟨by decide, by decide⟩, Nat.le_of_ble_eq_true rfl⟩
theorem KS_J19_isEmpty : (parseMethodDescriptor (zyn Y_J19_isEmpty).desc).isSome = true := by decide +kernel
theorem KI_J19_isEmpty : Cond.instanceMethod (zyn Y_J19_isEmpty) ∈ lw_all := q1596
def Y_X2_hasDeserted : ZY := (yX2_hasDeserted, cX2_hasDeserted, 3, some (.boolean), none, 6)
theorem K_X2_hasDeserted : zyc Y_X2_hasDeserted 2 := ⟨show zcw Y_X2_hasDeserted ∈ lw_all from q1591, q164, by decide +kernel, ⟨by decide, by decide⟩, Nat.le_of_ble_eq_true rfl⟩
theorem KS_X2_hasDeserted : (parseMethodDescriptor (zyn Y_X2_hasDeserted).desc).isSome = true := by decide +kernel
theorem KI_X2_hasDeserted : Cond.instanceMethod (zyn Y_X2_hasDeserted) ∈ lw_all := q1589
def Y_X2_reason : ZY := (yX2_reason, cX2_reason, 3, some (.int), none, 7)
theorem K_X2_reason : zyc Y_X2_reason 2 := ⟨show zcw Y_X2_reason ∈ lw_all from q1576, q164, by decide +kernel, ⟨by decide, by decide⟩, Nat.le_of_ble_eq_true rfl⟩
theorem KS_X2_reason : (parseMethodDescriptor (zyn Y_X2_reason).desc).isSome = true := by decide +kernel
theorem KI_X2_reason : Cond.instanceMethod (zyn Y_X2_reason) ∈ lw_all := q1574
def Y_X1_pairReason : ZY := (yX1_pairReason, cX1_pairReason, 3, some (.int), none, 8)
theorem K_X1_pairReason : zyc Y_X1_pairReason 2 := ⟨show zcw Y_X1_pairReason ∈ lw_all from q3612, q163, by decide +kernel, ⟨by decide, by decide⟩, Nat.le_of_ble_eq_true rfl⟩
theorem KS_X1_pairReason : (parseMethodDescriptor (zyn Y_X1_pairReason).desc).isSome = true := by decide +kernel
theorem KI_X1_pairReason : Cond.instanceMethod (zyn Y_X1_pairReason) ∈ lw_all := q3610
def Y_X0_pairReason : ZY := (yX0_pairReason, cX0_pairReason, 5, some (.int), (some [(0, 10, 13, 34)]), 9)
theorem K_X0_pairReason : zyc Y_X0_pairReason 4 := ⟨show zcw Y_X0_pairReason ∈ lw_all from q3608, q162, by decide +kernel, ⟨by decide, by decide⟩, Nat.le_of_ble_eq_true rfl⟩
theorem KS_X0_pairReason : (parseMethodDescriptor (zyn Y_X0_pairReason).desc).isSome = true := by decide +kernel
theorem KT_X0_pairReason : Cond.static (zyn Y_X0_pairReason) ∈ lw_all := q3607
def Y_X2_prefersValley : ZY := (yX2_prefersValley, cX2_prefersValley, 5, some (.boolean), none, 5)
theorem K_X2_prefersValley : zyc Y_X2_prefersValley 2 := ⟨show zcw Y_X2_prefersValley ∈ lw_all from q2011, q164, by decide +kernel, ⟨by decide, by decide⟩, Nat.le_of_ble_eq_true rfl⟩
theorem KS_X2_prefersValley : (parseMethodDescriptor (zyn Y_X2_prefersValley).desc).isSome = true := by decide +kernel
theorem KI_X2_prefersValley : Cond.instanceMethod (zyn Y_X2_prefersValley) ∈ lw_all := q2009
def Y_X1_preferredValley : ZY := (yX1_preferredValley, cX1_preferredValley, 7, some (.int), none, 8)
theorem K_X1_preferredValley : zyc Y_X1_preferredValley 2 := ⟨show zcw Y_X1_preferredValley ∈ lw_all from q3619, q163, by decide +kernel, ⟨by decide, by decide⟩, Nat.le_of_ble_eq_true rfl⟩
theorem KS_X1_preferredValley : (parseMethodDescriptor (zyn Y_X1_preferredValley).desc).isSome = true := by decide +kernel
theorem KI_X1_preferredValley : Cond.instanceMethod (zyn Y_X1_preferredValley) ∈ lw_all := q3617
def Y_X0_preferredValley : ZY := (yX0_preferredValley, cX0_preferredValley, 5, some (.int), (some [(0, 10, 13, 34)]), 9)
theorem K_X0_preferredValley : zyc Y_X0_preferredValley 4 := ⟨show zcw Y_X0_preferredValley ∈ lw_all from q3615, q162, by decide +kernel, ⟨by decide, by decide⟩, Nat.le_of_ble_eq_true rfl⟩
theorem KS_X0_preferredValley : (parseMethodDescriptor (zyn Y_X0_preferredValley).desc).isSome = true := by decide +kernel
theorem KT_X0_preferredValley : Cond.static (zyn Y_X0_preferredValley) ∈ lw_all := q3614
def Y_X2_prefersEcho : ZY := (yX2_prefersEcho, cX2_prefersEcho, 6, some (.boolean), none, 6)
theorem K_X2_prefersEcho : zyc Y_X2_prefersEcho 3 := ⟨show zcw Y_X2_prefersEcho ∈ lw_all from q2023, q164, by decide +kernel, ⟨by decide, by decide⟩, Nat.le_of_ble_eq_true rfl⟩
theorem KS_X2_prefersEcho : (parseMethodDescriptor (zyn Y_X2_prefersEcho).desc).isSome = true := by decide +kernel
theorem KI_X2_prefersEcho : Cond.instanceMethod (zyn Y_X2_prefersEcho) ∈ lw_all := q2021
def Y_X1_preferredEcho : ZY := (yX1_preferredEcho, cX1_preferredEcho, 7, some (.int), none, 8)
theorem K_X1_preferredEcho : zyc Y_X1_preferredEcho 2 := ⟨show zcw Y_X1_preferredEcho ∈ lw_all from q3626, q163, by decide +kernel, ⟨by decide, by decide⟩, Nat.le_of_ble_eq_true rfl⟩
theorem KS_X1_preferredEcho : (parseMethodDescriptor (zyn Y_X1_preferredEcho).desc).isSome = true := by decide +kernel
theorem KI_X1_preferredEcho : Cond.instanceMethod (zyn Y_X1_preferredEcho) ∈ lw_all := q3624
def Y_X0_preferredEcho : ZY := (yX0_preferredEcho, cX0_preferredEcho, 5, some (.int), (some [(0, 10, 13, 34)]), 9)
theorem K_X0_preferredEcho : zyc Y_X0_preferredEcho 4 := ⟨show zcw Y_X0_preferredEcho ∈ lw_all from q3622, q162, by decide +kernel, ⟨by decide, by decide⟩, Nat.le_of_ble_eq_true rfl⟩
theorem KS_X0_preferredEcho : (parseMethodDescriptor (zyn Y_X0_preferredEcho).desc).isSome = true := by decide +kernel
theorem KT_X0_preferredEcho : Cond.static (zyn Y_X0_preferredEcho) ∈ lw_all := q3621
def Y_X8_init : ZY := (yX8_init, cX8_init, 4, none, none, 7)
theorem K_X8_init : zyc Y_X8_init 1 := ⟨show zcw Y_X8_init ∈ lw_all from q2217, q206, by decide +kernel, ⟨by decide, by decide⟩, Nat.le_of_ble_eq_true rfl⟩
theorem KS_X8_init : (parseMethodDescriptor (zyn Y_X8_init).desc).isSome = true := by decide +kernel
theorem KI_X8_init : Cond.instanceMethod (zyn Y_X8_init) ∈ lw_all := q2216
def Y_X8_prefers : ZY := (yX8_prefers, cX8_prefers, 6, some (.boolean), none, 1)
theorem K_X8_prefers : zyc Y_X8_prefers 3 := ⟨show zcw Y_X8_prefers ∈ lw_all from q2337, q206, by decide +kernel, ⟨by decide, by decide⟩, Nat.le_of_ble_eq_true rfl⟩
theorem KS_X8_prefers : (parseMethodDescriptor (zyn Y_X8_prefers).desc).isSome = true := by decide +kernel
theorem KI_X8_prefers : Cond.instanceMethod (zyn Y_X8_prefers) ∈ lw_all := q2336
def Y_X8_worstPlace : ZY := (yX8_worstPlace, cX8_worstPlace, 4, some (.int), none, 2)
theorem K_X8_worstPlace : zyc Y_X8_worstPlace 1 := ⟨show zcw Y_X8_worstPlace ∈ lw_all from q2333, q206, by decide +kernel, ⟨by decide, by decide⟩, Nat.le_of_ble_eq_true rfl⟩
theorem KS_X8_worstPlace : (parseMethodDescriptor (zyn Y_X8_worstPlace).desc).isSome = true := by decide +kernel
theorem KI_X8_worstPlace : Cond.instanceMethod (zyn Y_X8_worstPlace) ∈ lw_all := q2332
def Y_X4_freePosts : ZY := (yX4_freePosts, cX4_freePosts, 1, some (.int), none, 1)
theorem K_X4_freePosts : zyc Y_X4_freePosts 0 := ⟨show zcw Y_X4_freePosts ∈ lw_all from q2019, q198, by decide +kernel, ⟨by decide, by decide⟩, Nat.le_of_ble_eq_true rfl⟩
theorem KS_X4_freePosts : (parseMethodDescriptor (zyn Y_X4_freePosts).desc).isSome = true := by decide +kernel
theorem KI_X4_freePosts : Cond.instanceMethod (zyn Y_X4_freePosts) ∈ lw_all := q2017
def Y_X8_apply : ZY := (yX8_apply, cX8_apply, 6, some (.int), none, 5)
theorem K_X8_apply : zyc Y_X8_apply 2 := ⟨show zcw Y_X8_apply ∈ lw_all from q2328, q206, by decide +kernel, ⟨by decide, by decide⟩, Nat.le_of_ble_eq_true rfl⟩
theorem KS_X8_apply : (parseMethodDescriptor (zyn Y_X8_apply).desc).isSome = true := by decide +kernel
theorem KI_X8_apply : Cond.instanceMethod (zyn Y_X8_apply) ∈ lw_all := q2327
def Y_X8_nextValley : ZY := (yX8_nextValley, cX8_nextValley, 4, some (.int), none, 1)
theorem K_X8_nextValley : zyc Y_X8_nextValley 1 := ⟨show zcw Y_X8_nextValley ∈ lw_all from q2324, q206, by decide +kernel, ⟨by decide, by decide⟩, Nat.le_of_ble_eq_true rfl⟩
theorem KS_X8_nextValley : (parseMethodDescriptor (zyn Y_X8_nextValley).desc).isSome = true := by decide +kernel
theorem KI_X8_nextValley : Cond.instanceMethod (zyn Y_X8_nextValley) ∈ lw_all := q2323
def Y_X8_open : ZY := (yX8_open, cX8_open, 4, none, none, 5)
theorem K_X8_open : zyc Y_X8_open 0 := ⟨show zcw Y_X8_open ∈ lw_all from q2259, q206, by decide +kernel, ⟨by decide, by decide⟩, Nat.le_of_ble_eq_true rfl⟩
theorem KS_X8_open : (parseMethodDescriptor (zyn Y_X8_open).desc).isSome = true := by decide +kernel
theorem KI_X8_open : Cond.instanceMethod (zyn Y_X8_open) ∈ lw_all := q2258
def Y_J17_intValue : ZY := (yJ17_intValue, cJ17_intValue, 1, some (.int), none, 1)
theorem K_J17_intValue : zyc Y_J17_intValue 0 := ⟨show zcw Y_J17_intValue ∈ lw_all from q1763, q183, by decide +kernel, ⟨by decide, by decide⟩, Nat.le_of_ble_eq_true rfl⟩
theorem KS_J17_intValue : (parseMethodDescriptor (zyn Y_J17_intValue).desc).isSome = true := by decide +kernel
theorem KI_J17_intValue : Cond.instanceMethod (zyn Y_J17_intValue) ∈ lw_all := q1761
def Y_J16_init : ZY := (yJ16_init, cJ16_init, 1, none, none, 1)
theorem K_J16_init : zyc Y_J16_init 0 := ⟨show zcw Y_J16_init ∈ lw_all from q2276, q182, by decide +kernel, ⟨by decide, by decide⟩, Nat.le_of_ble_eq_true rfl⟩
theorem KS_J16_init : (parseMethodDescriptor (zyn Y_J16_init).desc).isSome = true := by decide +kernel
theorem KI_J16_init : Cond.instanceMethod (zyn Y_J16_init) ∈ lw_all := q2275
def Y_J17_init : ZY := (yJ17_init, cJ17_init, 2, none, none, 2)
theorem K_J17_init : zyc Y_J17_init 1 := ⟨show zcw Y_J17_init ∈ lw_all from q2273, q183, by decide +kernel, ⟨by decide, by decide⟩, Nat.le_of_ble_eq_true rfl⟩
theorem KS_J17_init : (parseMethodDescriptor (zyn Y_J17_init).desc).isSome = true := by decide +kernel
theorem KI_J17_init : Cond.instanceMethod (zyn Y_J17_init) ∈ lw_all := q2272
def Y_J17_valueOf : ZY := (yJ17_valueOf, cJ17_valueOf, 1, some (.object "java/lang/Integer"), none, 3)
theorem K_J17_valueOf : zyc Y_J17_valueOf 1 := ⟨show zcw Y_J17_valueOf ∈ lw_all from q2265, q183, by decide +kernel, ⟨by decide, by decide⟩, Nat.le_of_ble_eq_true rfl⟩
theorem KS_J17_valueOf : (parseMethodDescriptor (zyn Y_J17_valueOf).desc).isSome = true := by decide +kernel
theorem KT_J17_valueOf : Cond.static (zyn Y_J17_valueOf) ∈ lw_all := q2264
def Y_J31_init : ZY := (yJ31_init, cJ31_init, 2, none, none, 2)
theorem K_J31_init : zyc Y_J31_init 1 := ⟨show zcw Y_J31_init ∈ lw_all from q1441, q199, by decide +kernel, ⟨by decide, by decide⟩, Nat.le_of_ble_eq_true rfl⟩
theorem KS_J31_init : (parseMethodDescriptor (zyn Y_J31_init).desc).isSome = true := by decide +kernel
theorem KI_J31_init : Cond.instanceMethod (zyn Y_J31_init) ∈ lw_all := q1440
def Y_J31_isEmpty : ZY := (yJ31_isEmpty, cJ31_isEmpty, 1, some (.boolean), none, 1)
theorem K_J31_isEmpty : zyc Y_J31_isEmpty 0 := ⟨show zcw Y_J31_isEmpty ∈ lw_all from q2307, q199, by decide +kernel, ⟨by decide, by decide⟩, Nat.le_of_ble_eq_true rfl⟩
theorem KS_J31_isEmpty : (parseMethodDescriptor (zyn Y_J31_isEmpty).desc).isSome = true := by decide +kernel
theorem KI_J31_isEmpty : Cond.instanceMethod (zyn Y_J31_isEmpty) ∈ lw_all := q2305
def Y_X8_result : ZY := (yX8_result, cX8_result, 5, some (.array (.int)), none, 6)
theorem K_X8_result : zyc Y_X8_result 0 := ⟨show zcw Y_X8_result ∈ lw_all from q2255, q206, by decide +kernel, ⟨by decide, by decide⟩, Nat.le_of_ble_eq_true rfl⟩
theorem KS_X8_result : (parseMethodDescriptor (zyn Y_X8_result).desc).isSome = true := by decide +kernel
theorem KI_X8_result : Cond.instanceMethod (zyn Y_X8_result) ∈ lw_all := q2253
def Y_X1_fairResult : ZY := (yX1_fairResult, cX1_fairResult, 3, some (.int), none, 8)
theorem K_X1_fairResult : zyc Y_X1_fairResult 1 := ⟨show zcw Y_X1_fairResult ∈ lw_all from q3633, q163, by decide +kernel, ⟨by decide, by decide⟩, Nat.le_of_ble_eq_true rfl⟩
theorem KS_X1_fairResult : (parseMethodDescriptor (zyn Y_X1_fairResult).desc).isSome = true := by decide +kernel
theorem KI_X1_fairResult : Cond.instanceMethod (zyn Y_X1_fairResult) ∈ lw_all := q3631
def Y_X0_fairResult : ZY := (yX0_fairResult, cX0_fairResult, 4, some (.int), (some [(0, 9, 12, 34)]), 9)
theorem K_X0_fairResult : zyc Y_X0_fairResult 3 := ⟨show zcw Y_X0_fairResult ∈ lw_all from q3629, q162, by decide +kernel, ⟨by decide, by decide⟩, Nat.le_of_ble_eq_true rfl⟩
theorem KS_X0_fairResult : (parseMethodDescriptor (zyn Y_X0_fairResult).desc).isSome = true := by decide +kernel
theorem KT_X0_fairResult : Cond.static (zyn Y_X0_fairResult) ∈ lw_all := q3628
def Y_X4_release : ZY := (yX4_release, cX4_release, 3, none, none, 1)
theorem K_X4_release : zyc Y_X4_release 1 := ⟨show zcw Y_X4_release ∈ lw_all from q3343, q198, by decide +kernel, ⟨by decide, by decide⟩, Nat.le_of_ble_eq_true rfl⟩
theorem KS_X4_release : (parseMethodDescriptor (zyn Y_X4_release).desc).isSome = true := by decide +kernel
theorem KI_X4_release : Cond.instanceMethod (zyn Y_X4_release) ∈ lw_all := q3341
def Y_X2_end : ZY := (yX2_end, cX2_end, 3, some (.int), none, 5)
theorem K_X2_end : zyc Y_X2_end 1 := ⟨show zcw Y_X2_end ∈ lw_all from q3339, q164, by decide +kernel, ⟨by decide, by decide⟩, Nat.le_of_ble_eq_true rfl⟩
theorem KS_X2_end : (parseMethodDescriptor (zyn Y_X2_end).desc).isSome = true := by decide +kernel
theorem KI_X2_end : Cond.instanceMethod (zyn Y_X2_end) ∈ lw_all := q3337
def Y_X2_desert : ZY := (yX2_desert, cX2_desert, 5, none, none, 7)
theorem K_X2_desert : zyc Y_X2_desert 1 := ⟨show zcw Y_X2_desert ∈ lw_all from q3388, q164, by decide +kernel, ⟨by decide, by decide⟩, Nat.le_of_ble_eq_true rfl⟩
theorem KS_X2_desert : (parseMethodDescriptor (zyn Y_X2_desert).desc).isSome = true := by decide +kernel
theorem KI_X2_desert : Cond.instanceMethod (zyn Y_X2_desert) ∈ lw_all := q3387
def Y_X2_pay : ZY := (yX2_pay, cX2_pay, 4, none, none, 1)
theorem K_X2_pay : zyc Y_X2_pay 2 := ⟨show zcw Y_X2_pay ∈ lw_all from q3384, q164, by decide +kernel, ⟨by decide, by decide⟩, Nat.le_of_ble_eq_true rfl⟩
theorem KS_X2_pay : (parseMethodDescriptor (zyn Y_X2_pay).desc).isSome = true := by decide +kernel
theorem KI_X2_pay : Cond.instanceMethod (zyn Y_X2_pay) ∈ lw_all := q3383
def Y_J22_get : ZY := (yJ22_get, cJ22_get, 3, some (.object "java/lang/Object"), none, 4)
theorem K_J22_get : zyc Y_J22_get 1 := ⟨show zcw Y_J22_get ∈ lw_all from q3376, q188, by decide +kernel, ⟨by decide, by decide⟩, Nat.le_of_ble_eq_true rfl⟩
theorem KS_J22_get : (parseMethodDescriptor (zyn Y_J22_get).desc).isSome = true := by decide +kernel
theorem KI_J22_get : Cond.instanceMethod (zyn Y_J22_get) ∈ lw_all := q3365
def Y_X2_shout : ZY := (yX2_shout, cX2_shout, 8, none, none, 6)
theorem K_X2_shout : zyc Y_X2_shout 1 := ⟨show zcw Y_X2_shout ∈ lw_all from q3363, q164, by decide +kernel, ⟨by decide, by decide⟩, Nat.le_of_ble_eq_true rfl⟩
theorem KS_X2_shout : (parseMethodDescriptor (zyn Y_X2_shout).desc).isSome = true := by decide +kernel
theorem KI_X2_shout : Cond.instanceMethod (zyn Y_X2_shout) ∈ lw_all := q3362
def Y_X4_hire : ZY := (yX4_hire, cX4_hire, 2, none, none, 1)
theorem K_X4_hire : zyc Y_X4_hire 1 := ⟨show zcw Y_X4_hire ∈ lw_all from q2345, q198, by decide +kernel, ⟨by decide, by decide⟩, Nat.le_of_ble_eq_true rfl⟩
theorem KS_X4_hire : (parseMethodDescriptor (zyn Y_X4_hire).desc).isSome = true := by decide +kernel
theorem KI_X4_hire : Cond.instanceMethod (zyn Y_X4_hire) ∈ lw_all := q2343
def Y_X2_sign : ZY := (yX2_sign, cX2_sign, 3, none, none, 5)
theorem K_X2_sign : zyc Y_X2_sign 2 := ⟨show zcw Y_X2_sign ∈ lw_all from q2341, q164, by decide +kernel, ⟨by decide, by decide⟩, Nat.le_of_ble_eq_true rfl⟩
theorem KS_X2_sign : (parseMethodDescriptor (zyn Y_X2_sign).desc).isSome = true := by decide +kernel
theorem KI_X2_sign : Cond.instanceMethod (zyn Y_X2_sign) ∈ lw_all := q2340
def Y_X2_fair : ZY := (yX2_fair, cX2_fair, 5, some (.int), none, 8)
theorem K_X2_fair : zyc Y_X2_fair 0 := ⟨show zcw Y_X2_fair ∈ lw_all from q2212, q164, by decide +kernel, ⟨by decide, by decide⟩, Nat.le_of_ble_eq_true rfl⟩
theorem KS_X2_fair : (parseMethodDescriptor (zyn Y_X2_fair).desc).isSome = true := by decide +kernel
theorem KI_X2_fair : Cond.instanceMethod (zyn Y_X2_fair) ∈ lw_all := q2210
def Y_J22_clear : ZY := (yJ22_clear, cJ22_clear, 3, none, none, 1)
theorem K_J22_clear : zyc Y_J22_clear 0 := ⟨show zcw Y_J22_clear ∈ lw_all from q3358, q188, by decide +kernel, ⟨by decide, by decide⟩, Nat.le_of_ble_eq_true rfl⟩
theorem KS_J22_clear : (parseMethodDescriptor (zyn Y_J22_clear).desc).isSome = true := by decide +kernel
theorem KI_J22_clear : Cond.instanceMethod (zyn Y_J22_clear) ∈ lw_all := q3351
def Y_J23_clear : ZY := (yJ23_clear, cJ23_clear, 1, none, none, 2)
theorem K_J23_clear : zyc Y_J23_clear 0 := ⟨show zcw Y_J23_clear ∈ lw_all from q3356, q189, by decide +kernel, ⟨by decide, by decide⟩, Nat.le_of_ble_eq_true rfl⟩
theorem KS_J23_clear : (parseMethodDescriptor (zyn Y_J23_clear).desc).isSome = true := by decide +kernel
theorem KI_J23_clear : Cond.instanceMethod (zyn Y_J23_clear) ∈ lw_all := q3355
def Y_J19_clear : ZY := (yJ19_clear, cJ19_clear, 1, none, none, 3)
theorem K_J19_clear : zyc Y_J19_clear 0 := ⟨show zcw Y_J19_clear ∈ lw_all from q3349, q185, by decide +kernel, ⟨by decide, by decide⟩, Nat.le_of_ble_eq_true rfl⟩
theorem KS_J19_clear : (parseMethodDescriptor (zyn Y_J19_clear).desc).isSome = true := by decide +kernel
theorem KI_J19_clear : Cond.instanceMethod (zyn Y_J19_clear) ∈ lw_all := q3348
def Y_X2_startSeason : ZY := (yX2_startSeason, cX2_startSeason, 3, none, none, 9)
theorem K_X2_startSeason : zyc Y_X2_startSeason 0 := ⟨show zcw Y_X2_startSeason ∈ lw_all from q3335, q164, by decide +kernel, ⟨by decide, by decide⟩, Nat.le_of_ble_eq_true rfl⟩
theorem KS_X2_startSeason : (parseMethodDescriptor (zyn Y_X2_startSeason).desc).isSome = true := by decide +kernel
theorem KI_X2_startSeason : Cond.instanceMethod (zyn Y_X2_startSeason) ∈ lw_all := q3334
def Y_X2_passDay : ZY := (yX2_passDay, cX2_passDay, 2, none, none, 10)
theorem K_X2_passDay : zyc Y_X2_passDay 0 := ⟨show zcw Y_X2_passDay ∈ lw_all from q3331, q164, by decide +kernel, ⟨by decide, by decide⟩, Nat.le_of_ble_eq_true rfl⟩
theorem KS_X2_passDay : (parseMethodDescriptor (zyn Y_X2_passDay).desc).isSome = true := by decide +kernel
theorem KI_X2_passDay : Cond.instanceMethod (zyn Y_X2_passDay) ∈ lw_all := q3329
def Y_X2_after : ZY := (yX2_after, cX2_after, 3, some (.object "EchoFair$State"), none, 11)
theorem K_X2_after : zyc Y_X2_after 1 := ⟨show zcw Y_X2_after ∈ lw_all from q3327, q164, by decide +kernel, ⟨by decide, by decide⟩, Nat.le_of_ble_eq_true rfl⟩
theorem KS_X2_after : (parseMethodDescriptor (zyn Y_X2_after).desc).isSome = true := by decide +kernel
theorem KI_X2_after : Cond.instanceMethod (zyn Y_X2_after) ∈ lw_all := q3325
def Y_X1_simulate : ZY := (yX1_simulate, cX1_simulate, 2, some (.object "EchoFair$State"), none, 12)
theorem K_X1_simulate : zyc Y_X1_simulate 1 := ⟨show zcw Y_X1_simulate ∈ lw_all from q3647, q163, by decide +kernel, ⟨by decide, by decide⟩, Nat.le_of_ble_eq_true rfl⟩
theorem KS_X1_simulate : (parseMethodDescriptor (zyn Y_X1_simulate).desc).isSome = true := by decide +kernel
theorem KI_X1_simulate : Cond.instanceMethod (zyn Y_X1_simulate) ∈ lw_all := q3646
def Y_X1_savingsAfter : ZY := (yX1_savingsAfter, cX1_savingsAfter, 4, some (.int), none, 13)
theorem K_X1_savingsAfter : zyc Y_X1_savingsAfter 2 := ⟨show zcw Y_X1_savingsAfter ∈ lw_all from q3643, q163, by decide +kernel, ⟨by decide, by decide⟩, Nat.le_of_ble_eq_true rfl⟩
theorem KS_X1_savingsAfter : (parseMethodDescriptor (zyn Y_X1_savingsAfter).desc).isSome = true := by decide +kernel
theorem KI_X1_savingsAfter : Cond.instanceMethod (zyn Y_X1_savingsAfter) ∈ lw_all := q3641
def Y_X0_savingsAfter : ZY := (yX0_savingsAfter, cX0_savingsAfter, 5, some (.int), (some [(0, 10, 13, 34), (0, 10, 17, 19)]), 14)
theorem K_X0_savingsAfter : zyc Y_X0_savingsAfter 4 := ⟨show zcw Y_X0_savingsAfter ∈ lw_all from q3639, q162, by decide +kernel, ⟨by decide, by decide⟩, Nat.le_of_ble_eq_true rfl⟩
theorem KS_X0_savingsAfter : (parseMethodDescriptor (zyn Y_X0_savingsAfter).desc).isSome = true := by decide +kernel
theorem KT_X0_savingsAfter : Cond.static (zyn Y_X0_savingsAfter) ∈ lw_all := q3638
def Y_X1_purseAfter : ZY := (yX1_purseAfter, cX1_purseAfter, 4, some (.int), none, 13)
theorem K_X1_purseAfter : zyc Y_X1_purseAfter 2 := ⟨show zcw Y_X1_purseAfter ∈ lw_all from q3656, q163, by decide +kernel, ⟨by decide, by decide⟩, Nat.le_of_ble_eq_true rfl⟩
theorem KS_X1_purseAfter : (parseMethodDescriptor (zyn Y_X1_purseAfter).desc).isSome = true := by decide +kernel
theorem KI_X1_purseAfter : Cond.instanceMethod (zyn Y_X1_purseAfter) ∈ lw_all := q3654
def Y_X0_purseAfter : ZY := (yX0_purseAfter, cX0_purseAfter, 5, some (.int), (some [(0, 10, 13, 34), (0, 10, 17, 19)]), 14)
theorem K_X0_purseAfter : zyc Y_X0_purseAfter 4 := ⟨show zcw Y_X0_purseAfter ∈ lw_all from q3652, q162, by decide +kernel, ⟨by decide, by decide⟩, Nat.le_of_ble_eq_true rfl⟩
theorem KS_X0_purseAfter : (parseMethodDescriptor (zyn Y_X0_purseAfter).desc).isSome = true := by decide +kernel
theorem KT_X0_purseAfter : Cond.static (zyn Y_X0_purseAfter) ∈ lw_all := q3651
def Y_X1_desertsIn : ZY := (yX1_desertsIn, cX1_desertsIn, 5, some (.int), none, 11)
theorem K_X1_desertsIn : zyc Y_X1_desertsIn 1 := ⟨show zcw Y_X1_desertsIn ∈ lw_all from q3663, q163, by decide +kernel, ⟨by decide, by decide⟩, Nat.le_of_ble_eq_true rfl⟩
theorem KS_X1_desertsIn : (parseMethodDescriptor (zyn Y_X1_desertsIn).desc).isSome = true := by decide +kernel
theorem KI_X1_desertsIn : Cond.instanceMethod (zyn Y_X1_desertsIn) ∈ lw_all := q3661
def Y_X0_desertsIn : ZY := (yX0_desertsIn, cX0_desertsIn, 4, some (.int), (some [(0, 9, 12, 34)]), 12)
theorem K_X0_desertsIn : zyc Y_X0_desertsIn 3 := ⟨show zcw Y_X0_desertsIn ∈ lw_all from q3659, q162, by decide +kernel, ⟨by decide, by decide⟩, Nat.le_of_ble_eq_true rfl⟩
theorem KS_X0_desertsIn : (parseMethodDescriptor (zyn Y_X0_desertsIn).desc).isSome = true := by decide +kernel
theorem KT_X0_desertsIn : Cond.static (zyn Y_X0_desertsIn) ∈ lw_all := q3658
def Y_X8_resultWith : ZY := (yX8_resultWith, cX8_resultWith, 3, some (.array (.int)), none, 7)
theorem K_X8_resultWith : zyc Y_X8_resultWith 2 := ⟨show zcw Y_X8_resultWith ∈ lw_all from q3675, q206, by decide +kernel, ⟨by decide, by decide⟩, Nat.le_of_ble_eq_true rfl⟩
theorem KS_X8_resultWith : (parseMethodDescriptor (zyn Y_X8_resultWith).desc).isSome = true := by decide +kernel
theorem KI_X8_resultWith : Cond.instanceMethod (zyn Y_X8_resultWith) ∈ lw_all := q3673
def Y_X1_leastWage : ZY := (yX1_leastWage, cX1_leastWage, 5, some (.int), none, 8)
theorem K_X1_leastWage : zyc Y_X1_leastWage 2 := ⟨show zcw Y_X1_leastWage ∈ lw_all from q3671, q163, by decide +kernel, ⟨by decide, by decide⟩, Nat.le_of_ble_eq_true rfl⟩
theorem KS_X1_leastWage : (parseMethodDescriptor (zyn Y_X1_leastWage).desc).isSome = true := by decide +kernel
theorem KI_X1_leastWage : Cond.instanceMethod (zyn Y_X1_leastWage) ∈ lw_all := q3669
def Y_X0_leastWage : ZY := (yX0_leastWage, cX0_leastWage, 5, some (.int), (some [(0, 10, 13, 34)]), 9)
theorem K_X0_leastWage : zyc Y_X0_leastWage 4 := ⟨show zcw Y_X0_leastWage ∈ lw_all from q3667, q162, by decide +kernel, ⟨by decide, by decide⟩, Nat.le_of_ble_eq_true rfl⟩
theorem KS_X0_leastWage : (parseMethodDescriptor (zyn Y_X0_leastWage).desc).isSome = true := by decide +kernel
theorem KT_X0_leastWage : Cond.static (zyn Y_X0_leastWage) ∈ lw_all := q3666
def Y_X1_bestTest : ZY := (yX1_bestTest, cX1_bestTest, 5, some (.int), none, 8)
theorem K_X1_bestTest : zyc Y_X1_bestTest 1 := ⟨show zcw Y_X1_bestTest ∈ lw_all from q3683, q163, by decide +kernel, ⟨by decide, by decide⟩, Nat.le_of_ble_eq_true rfl⟩
theorem KS_X1_bestTest : (parseMethodDescriptor (zyn Y_X1_bestTest).desc).isSome = true := by decide +kernel
theorem KI_X1_bestTest : Cond.instanceMethod (zyn Y_X1_bestTest) ∈ lw_all := q3681
def Y_X0_bestTest : ZY := (yX0_bestTest, cX0_bestTest, 4, some (.int), (some [(0, 9, 12, 34)]), 9)
theorem K_X0_bestTest : zyc Y_X0_bestTest 3 := ⟨show zcw Y_X0_bestTest ∈ lw_all from q3679, q162, by decide +kernel, ⟨by decide, by decide⟩, Nat.le_of_ble_eq_true rfl⟩
theorem KS_X0_bestTest : (parseMethodDescriptor (zyn Y_X0_bestTest).desc).isSome = true := by decide +kernel
theorem KT_X0_bestTest : Cond.static (zyn Y_X0_bestTest) ∈ lw_all := q3678
def Y_X1_daysServed : ZY := (yX1_daysServed, cX1_daysServed, 4, some (.int), none, 8)
theorem K_X1_daysServed : zyc Y_X1_daysServed 2 := ⟨show zcw Y_X1_daysServed ∈ lw_all from q3691, q163, by decide +kernel, ⟨by decide, by decide⟩, Nat.le_of_ble_eq_true rfl⟩
theorem KS_X1_daysServed : (parseMethodDescriptor (zyn Y_X1_daysServed).desc).isSome = true := by decide +kernel
theorem KI_X1_daysServed : Cond.instanceMethod (zyn Y_X1_daysServed) ∈ lw_all := q3689
def Y_X0_daysServed : ZY := (yX0_daysServed, cX0_daysServed, 5, some (.int), (some [(0, 10, 13, 34)]), 9)
theorem K_X0_daysServed : zyc Y_X0_daysServed 4 := ⟨show zcw Y_X0_daysServed ∈ lw_all from q3687, q162, by decide +kernel, ⟨by decide, by decide⟩, Nat.le_of_ble_eq_true rfl⟩
theorem KS_X0_daysServed : (parseMethodDescriptor (zyn Y_X0_daysServed).desc).isSome = true := by decide +kernel
theorem KT_X0_daysServed : Cond.static (zyn Y_X0_daysServed) ∈ lw_all := q3686
def Y_X1_desertions : ZY := (yX1_desertions, cX1_desertions, 2, some (.int), none, 8)
theorem K_X1_desertions : zyc Y_X1_desertions 1 := ⟨show zcw Y_X1_desertions ∈ lw_all from q3703, q163, by decide +kernel, ⟨by decide, by decide⟩, Nat.le_of_ble_eq_true rfl⟩
theorem KS_X1_desertions : (parseMethodDescriptor (zyn Y_X1_desertions).desc).isSome = true := by decide +kernel
theorem KI_X1_desertions : Cond.instanceMethod (zyn Y_X1_desertions) ∈ lw_all := q3701
def Y_X0_desertions : ZY := (yX0_desertions, cX0_desertions, 4, some (.int), (some [(0, 9, 12, 34)]), 9)
theorem K_X0_desertions : zyc Y_X0_desertions 3 := ⟨show zcw Y_X0_desertions ∈ lw_all from q3699, q162, by decide +kernel, ⟨by decide, by decide⟩, Nat.le_of_ble_eq_true rfl⟩
theorem KS_X0_desertions : (parseMethodDescriptor (zyn Y_X0_desertions).desc).isSome = true := by decide +kernel
theorem KT_X0_desertions : Cond.static (zyn Y_X0_desertions) ∈ lw_all := q3698
def Y_X1_repliesHeard : ZY := (yX1_repliesHeard, cX1_repliesHeard, 2, some (.int), none, 8)
theorem K_X1_repliesHeard : zyc Y_X1_repliesHeard 1 := ⟨show zcw Y_X1_repliesHeard ∈ lw_all from q3710, q163, by decide +kernel, ⟨by decide, by decide⟩, Nat.le_of_ble_eq_true rfl⟩
theorem KS_X1_repliesHeard : (parseMethodDescriptor (zyn Y_X1_repliesHeard).desc).isSome = true := by decide +kernel
theorem KI_X1_repliesHeard : Cond.instanceMethod (zyn Y_X1_repliesHeard) ∈ lw_all := q3708
def Y_X0_repliesHeard : ZY := (yX0_repliesHeard, cX0_repliesHeard, 4, some (.int), (some [(0, 9, 12, 34)]), 9)
theorem K_X0_repliesHeard : zyc Y_X0_repliesHeard 3 := ⟨show zcw Y_X0_repliesHeard ∈ lw_all from q3706, q162, by decide +kernel, ⟨by decide, by decide⟩, Nat.le_of_ble_eq_true rfl⟩
theorem KS_X0_repliesHeard : (parseMethodDescriptor (zyn Y_X0_repliesHeard).desc).isSome = true := by decide +kernel
theorem KT_X0_repliesHeard : Cond.static (zyn Y_X0_repliesHeard) ∈ lw_all := q3705
def Y_X1_wagesPaid : ZY := (yX1_wagesPaid, cX1_wagesPaid, 2, some (.int), none, 8)
theorem K_X1_wagesPaid : zyc Y_X1_wagesPaid 1 := ⟨show zcw Y_X1_wagesPaid ∈ lw_all from q3717, q163, by decide +kernel, ⟨by decide, by decide⟩, Nat.le_of_ble_eq_true rfl⟩
theorem KS_X1_wagesPaid : (parseMethodDescriptor (zyn Y_X1_wagesPaid).desc).isSome = true := by decide +kernel
theorem KI_X1_wagesPaid : Cond.instanceMethod (zyn Y_X1_wagesPaid) ∈ lw_all := q3715
def Y_X0_wagesPaid : ZY := (yX0_wagesPaid, cX0_wagesPaid, 4, some (.int), (some [(0, 9, 12, 34)]), 9)
theorem K_X0_wagesPaid : zyc Y_X0_wagesPaid 3 := ⟨show zcw Y_X0_wagesPaid ∈ lw_all from q3713, q162, by decide +kernel, ⟨by decide, by decide⟩, Nat.le_of_ble_eq_true rfl⟩
theorem KS_X0_wagesPaid : (parseMethodDescriptor (zyn Y_X0_wagesPaid).desc).isSome = true := by decide +kernel
theorem KT_X0_wagesPaid : Cond.static (zyn Y_X0_wagesPaid) ∈ lw_all := q3712
def Y_X1_perform : ZY := (yX1_perform, cX1_perform, 4, some (.int), none, 15)
theorem K_X1_perform : zyc Y_X1_perform 1 := ⟨show zcw Y_X1_perform ∈ lw_all from q2349, q163, by decide +kernel, ⟨by decide, by decide⟩, Nat.le_of_ble_eq_true rfl⟩
theorem KS_X1_perform : (parseMethodDescriptor (zyn Y_X1_perform).desc).isSome = true := by decide +kernel
theorem KI_X1_perform : Cond.instanceMethod (zyn Y_X1_perform) ∈ lw_all := q2348
def Y_X1_passDays : ZY := (yX1_passDays, cX1_passDays, 2, some (.int), none, 16)
theorem K_X1_passDays : zyc Y_X1_passDays 1 := ⟨show zcw Y_X1_passDays ∈ lw_all from q3724, q163, by decide +kernel, ⟨by decide, by decide⟩, Nat.le_of_ble_eq_true rfl⟩
theorem KS_X1_passDays : (parseMethodDescriptor (zyn Y_X1_passDays).desc).isSome = true := by decide +kernel
theorem KI_X1_passDays : Cond.instanceMethod (zyn Y_X1_passDays) ∈ lw_all := q3722
def Y_X0_passDays : ZY := (yX0_passDays, cX0_passDays, 4, some (.int), (some [(0, 9, 12, 19)]), 17)
theorem K_X0_passDays : zyc Y_X0_passDays 3 := ⟨show zcw Y_X0_passDays ∈ lw_all from q3720, q162, by decide +kernel, ⟨by decide, by decide⟩, Nat.le_of_ble_eq_true rfl⟩
theorem KS_X0_passDays : (parseMethodDescriptor (zyn Y_X0_passDays).desc).isSome = true := by decide +kernel
theorem KT_X0_passDays : Cond.static (zyn Y_X0_passDays) ∈ lw_all := q3719
def Y_X1_test : ZY := (yX1_test, cX1_test, 3, some (.int), none, 16)
theorem K_X1_test : zyc Y_X1_test 2 := ⟨show zcw Y_X1_test ∈ lw_all from q3735, q163, by decide +kernel, ⟨by decide, by decide⟩, Nat.le_of_ble_eq_true rfl⟩
theorem KS_X1_test : (parseMethodDescriptor (zyn Y_X1_test).desc).isSome = true := by decide +kernel
theorem KI_X1_test : Cond.instanceMethod (zyn Y_X1_test) ∈ lw_all := q3733
def Y_X0_test : ZY := (yX0_test, cX0_test, 5, some (.int), (some [(0, 10, 13, 34), (0, 10, 17, 13)]), 17)
theorem K_X0_test : zyc Y_X0_test 4 := ⟨show zcw Y_X0_test ∈ lw_all from q3731, q162, by decide +kernel, ⟨by decide, by decide⟩, Nat.le_of_ble_eq_true rfl⟩
theorem KS_X0_test : (parseMethodDescriptor (zyn Y_X0_test).desc).isSome = true := by decide +kernel
theorem KT_X0_test : Cond.static (zyn Y_X0_test) ∈ lw_all := q3730
def Y_X1_dismiss : ZY := (yX1_dismiss, cX1_dismiss, 3, some (.int), none, 16)
theorem K_X1_dismiss : zyc Y_X1_dismiss 1 := ⟨show zcw Y_X1_dismiss ∈ lw_all from q3745, q163, by decide +kernel, ⟨by decide, by decide⟩, Nat.le_of_ble_eq_true rfl⟩
theorem KS_X1_dismiss : (parseMethodDescriptor (zyn Y_X1_dismiss).desc).isSome = true := by decide +kernel
theorem KI_X1_dismiss : Cond.instanceMethod (zyn Y_X1_dismiss) ∈ lw_all := q3743
def Y_X0_dismiss : ZY := (yX0_dismiss, cX0_dismiss, 4, some (.int), (some [(0, 9, 12, 34), (0, 9, 15, 13)]), 17)
theorem K_X0_dismiss : zyc Y_X0_dismiss 3 := ⟨show zcw Y_X0_dismiss ∈ lw_all from q3741, q162, by decide +kernel, ⟨by decide, by decide⟩, Nat.le_of_ble_eq_true rfl⟩
theorem KS_X0_dismiss : (parseMethodDescriptor (zyn Y_X0_dismiss).desc).isSome = true := by decide +kernel
theorem KT_X0_dismiss : Cond.static (zyn Y_X0_dismiss) ∈ lw_all := q3740
def Y_X1_setWage : ZY := (yX1_setWage, cX1_setWage, 4, some (.int), none, 16)
theorem K_X1_setWage : zyc Y_X1_setWage 2 := ⟨show zcw Y_X1_setWage ∈ lw_all from q3755, q163, by decide +kernel, ⟨by decide, by decide⟩, Nat.le_of_ble_eq_true rfl⟩
theorem KS_X1_setWage : (parseMethodDescriptor (zyn Y_X1_setWage).desc).isSome = true := by decide +kernel
theorem KI_X1_setWage : Cond.instanceMethod (zyn Y_X1_setWage) ∈ lw_all := q3753
def Y_X0_setWage : ZY := (yX0_setWage, cX0_setWage, 5, some (.int), (some [(0, 10, 13, 34), (0, 10, 17, 19)]), 17)
theorem K_X0_setWage : zyc Y_X0_setWage 4 := ⟨show zcw Y_X0_setWage ∈ lw_all from q3751, q162, by decide +kernel, ⟨by decide, by decide⟩, Nat.le_of_ble_eq_true rfl⟩
theorem KS_X0_setWage : (parseMethodDescriptor (zyn Y_X0_setWage).desc).isSome = true := by decide +kernel
theorem KT_X0_setWage : Cond.static (zyn Y_X0_setWage) ∈ lw_all := q3750
def Y_X1_fund : ZY := (yX1_fund, cX1_fund, 4, some (.int), none, 16)
theorem K_X1_fund : zyc Y_X1_fund 2 := ⟨show zcw Y_X1_fund ∈ lw_all from q3766, q163, by decide +kernel, ⟨by decide, by decide⟩, Nat.le_of_ble_eq_true rfl⟩
theorem KS_X1_fund : (parseMethodDescriptor (zyn Y_X1_fund).desc).isSome = true := by decide +kernel
theorem KI_X1_fund : Cond.instanceMethod (zyn Y_X1_fund) ∈ lw_all := q3764
def Y_X0_fund : ZY := (yX0_fund, cX0_fund, 5, some (.int), (some [(0, 10, 13, 34), (0, 10, 17, 19)]), 17)
theorem K_X0_fund : zyc Y_X0_fund 4 := ⟨show zcw Y_X0_fund ∈ lw_all from q3762, q162, by decide +kernel, ⟨by decide, by decide⟩, Nat.le_of_ble_eq_true rfl⟩
theorem KS_X0_fund : (parseMethodDescriptor (zyn Y_X0_fund).desc).isSome = true := by decide +kernel
theorem KT_X0_fund : Cond.static (zyn Y_X0_fund) ∈ lw_all := q3761
def Y_X1_train : ZY := (yX1_train, cX1_train, 3, some (.int), none, 16)
theorem K_X1_train : zyc Y_X1_train 1 := ⟨show zcw Y_X1_train ∈ lw_all from q3777, q163, by decide +kernel, ⟨by decide, by decide⟩, Nat.le_of_ble_eq_true rfl⟩
theorem KS_X1_train : (parseMethodDescriptor (zyn Y_X1_train).desc).isSome = true := by decide +kernel
theorem KI_X1_train : Cond.instanceMethod (zyn Y_X1_train) ∈ lw_all := q3775
def Y_X0_train : ZY := (yX0_train, cX0_train, 4, some (.int), (some [(0, 9, 12, 34), (0, 9, 15, 13)]), 17)
theorem K_X0_train : zyc Y_X0_train 3 := ⟨show zcw Y_X0_train ∈ lw_all from q3773, q162, by decide +kernel, ⟨by decide, by decide⟩, Nat.le_of_ble_eq_true rfl⟩
theorem KS_X0_train : (parseMethodDescriptor (zyn Y_X0_train).desc).isSome = true := by decide +kernel
theorem KT_X0_train : Cond.static (zyn Y_X0_train) ∈ lw_all := q3772
def Y_J31_dec : ZY := (yJ31_dec, cJ31_dec, 2, some (.int), none, 1)
theorem K_J31_dec : zyc Y_J31_dec 2 := ⟨show zcw Y_J31_dec ∈ lw_all from q3799, q199, by decide +kernel, ⟨by decide, by decide⟩, Nat.le_of_ble_eq_true rfl⟩
theorem KS_J31_dec : (parseMethodDescriptor (zyn Y_J31_dec).desc).isSome = true := by decide +kernel
theorem KT_J31_dec : Cond.static (zyn Y_J31_dec) ∈ lw_all := q3798
def Y_J31_pollLast : ZY := (yJ31_pollLast, cJ31_pollLast, 4, some (.object "java/lang/Object"), none, 2)
theorem K_J31_pollLast : zyc Y_J31_pollLast 0 := ⟨show zcw Y_J31_pollLast ∈ lw_all from q3796, q199, by decide +kernel, ⟨by decide, by decide⟩, Nat.le_of_ble_eq_true rfl⟩
theorem KS_J31_pollLast : (parseMethodDescriptor (zyn Y_J31_pollLast).desc).isSome = true := by decide +kernel
theorem KI_J31_pollLast : Cond.instanceMethod (zyn Y_J31_pollLast) ∈ lw_all := q3794
def Y_J31_removeLast : ZY := (yJ31_removeLast, cJ31_removeLast, 2, some (.object "java/lang/Object"), none, 3)
theorem K_J31_removeLast : zyc Y_J31_removeLast 0 := ⟨show zcw Y_J31_removeLast ∈ lw_all from q3792, q199, by decide +kernel, ⟨by decide, by decide⟩, Nat.le_of_ble_eq_true rfl⟩
theorem KS_J31_removeLast : (parseMethodDescriptor (zyn Y_J31_removeLast).desc).isSome = true := by decide +kernel
theorem KI_J31_removeLast : Cond.instanceMethod (zyn Y_J31_removeLast) ∈ lw_all := q3790
def Y_X1_undo : ZY := (yX1_undo, cX1_undo, 1, some (.int), none, 7)
theorem K_X1_undo : zyc Y_X1_undo 0 := ⟨show zcw Y_X1_undo ∈ lw_all from q3787, q163, by decide +kernel, ⟨by decide, by decide⟩, Nat.le_of_ble_eq_true rfl⟩
theorem KS_X1_undo : (parseMethodDescriptor (zyn Y_X1_undo).desc).isSome = true := by decide +kernel
theorem KI_X1_undo : Cond.instanceMethod (zyn Y_X1_undo) ∈ lw_all := q3785
def Y_X0_undo : ZY := (yX0_undo, cX0_undo, 3, some (.int), (some [(0, 8, 11, 13)]), 8)
theorem K_X0_undo : zyc Y_X0_undo 2 := ⟨show zcw Y_X0_undo ∈ lw_all from q3783, q162, by decide +kernel, ⟨by decide, by decide⟩, Nat.le_of_ble_eq_true rfl⟩
theorem KS_X0_undo : (parseMethodDescriptor (zyn Y_X0_undo).desc).isSome = true := by decide +kernel
theorem KT_X0_undo : Cond.static (zyn Y_X0_undo) ∈ lw_all := q3782
def Y_X1_restore : ZY := (yX1_restore, cX1_restore, 1, some (.int), none, 9)
theorem K_X1_restore : zyc Y_X1_restore 0 := ⟨show zcw Y_X1_restore ∈ lw_all from q3806, q163, by decide +kernel, ⟨by decide, by decide⟩, Nat.le_of_ble_eq_true rfl⟩
theorem KS_X1_restore : (parseMethodDescriptor (zyn Y_X1_restore).desc).isSome = true := by decide +kernel
theorem KI_X1_restore : Cond.instanceMethod (zyn Y_X1_restore) ∈ lw_all := q3804
def Y_X0_restore : ZY := (yX0_restore, cX0_restore, 3, some (.int), (some [(0, 8, 11, 13)]), 10)
theorem K_X0_restore : zyc Y_X0_restore 2 := ⟨show zcw Y_X0_restore ∈ lw_all from q3802, q162, by decide +kernel, ⟨by decide, by decide⟩, Nat.le_of_ble_eq_true rfl⟩
theorem KS_X0_restore : (parseMethodDescriptor (zyn Y_X0_restore).desc).isSome = true := by decide +kernel
theorem KT_X0_restore : Cond.static (zyn Y_X0_restore) ∈ lw_all := q3801
def Y_X1_initialState : ZY := (yX1_initialState, cX1_initialState, 1, some (.object "EchoFair$State"), none, 8)
theorem K_X1_initialState : zyc Y_X1_initialState 0 := ⟨show zcw Y_X1_initialState ∈ lw_all from q241, q163, by decide +kernel, ⟨by decide, by decide⟩, Nat.le_of_ble_eq_true rfl⟩
theorem KS_X1_initialState : (parseMethodDescriptor (zyn Y_X1_initialState).desc).isSome = true := by decide +kernel
theorem KT_X1_initialState : Cond.static (zyn Y_X1_initialState) ∈ lw_all := q240
def Y_X1_init : ZY := (yX1_init, cX1_init, 1, none, none, 9)
theorem K_X1_init : zyc Y_X1_init 0 := ⟨show zcw Y_X1_init ∈ lw_all from q235, q163, by decide +kernel, ⟨by decide, by decide⟩, Nat.le_of_ble_eq_true rfl⟩
theorem KS_X1_init : (parseMethodDescriptor (zyn Y_X1_init).desc).isSome = true := by decide +kernel
theorem KI_X1_init : Cond.instanceMethod (zyn Y_X1_init) ∈ lw_all := q234
def Y_X1_errorCode : ZY := (yX1_errorCode, cX1_errorCode, 1, some (.int), none, 1)
theorem K_X1_errorCode : zyc Y_X1_errorCode 0 := ⟨show zcw Y_X1_errorCode ∈ lw_all from q1490, q163, by decide +kernel, ⟨by decide, by decide⟩, Nat.le_of_ble_eq_true rfl⟩
theorem KS_X1_errorCode : (parseMethodDescriptor (zyn Y_X1_errorCode).desc).isSome = true := by decide +kernel
theorem KI_X1_errorCode : Cond.instanceMethod (zyn Y_X1_errorCode) ∈ lw_all := q1488
def Y_X1_errorPosition : ZY := (yX1_errorPosition, cX1_errorPosition, 1, some (.int), none, 1)
theorem K_X1_errorPosition : zyc Y_X1_errorPosition 0 := ⟨show zcw Y_X1_errorPosition ∈ lw_all from q1494, q163, by decide +kernel, ⟨by decide, by decide⟩, Nat.le_of_ble_eq_true rfl⟩
theorem KS_X1_errorPosition : (parseMethodDescriptor (zyn Y_X1_errorPosition).desc).isSome = true := by decide +kernel
theorem KI_X1_errorPosition : Cond.instanceMethod (zyn Y_X1_errorPosition) ∈ lw_all := q1492
def Y_X1_echoCount : ZY := (yX1_echoCount, cX1_echoCount, 1, some (.int), none, 2)
theorem K_X1_echoCount : zyc Y_X1_echoCount 0 := ⟨show zcw Y_X1_echoCount ∈ lw_all from q1498, q163, by decide +kernel, ⟨by decide, by decide⟩, Nat.le_of_ble_eq_true rfl⟩
theorem KS_X1_echoCount : (parseMethodDescriptor (zyn Y_X1_echoCount).desc).isSome = true := by decide +kernel
theorem KI_X1_echoCount : Cond.instanceMethod (zyn Y_X1_echoCount) ∈ lw_all := q1496
def Y_X1_valleyCount : ZY := (yX1_valleyCount, cX1_valleyCount, 1, some (.int), none, 2)
theorem K_X1_valleyCount : zyc Y_X1_valleyCount 0 := ⟨show zcw Y_X1_valleyCount ∈ lw_all from q1511, q163, by decide +kernel, ⟨by decide, by decide⟩, Nat.le_of_ble_eq_true rfl⟩
theorem KS_X1_valleyCount : (parseMethodDescriptor (zyn Y_X1_valleyCount).desc).isSome = true := by decide +kernel
theorem KI_X1_valleyCount : Cond.instanceMethod (zyn Y_X1_valleyCount) ∈ lw_all := q1509
def Y_X1_day : ZY := (yX1_day, cX1_day, 1, some (.int), none, 1)
theorem K_X1_day : zyc Y_X1_day 0 := ⟨show zcw Y_X1_day ∈ lw_all from q1515, q163, by decide +kernel, ⟨by decide, by decide⟩, Nat.le_of_ble_eq_true rfl⟩
theorem KS_X1_day : (parseMethodDescriptor (zyn Y_X1_day).desc).isSome = true := by decide +kernel
theorem KI_X1_day : Cond.instanceMethod (zyn Y_X1_day) ∈ lw_all := q1513
def Y_X1_seasonLength : ZY := (yX1_seasonLength, cX1_seasonLength, 1, some (.int), none, 1)
theorem K_X1_seasonLength : zyc Y_X1_seasonLength 0 := ⟨show zcw Y_X1_seasonLength ∈ lw_all from q1519, q163, by decide +kernel, ⟨by decide, by decide⟩, Nat.le_of_ble_eq_true rfl⟩
theorem KS_X1_seasonLength : (parseMethodDescriptor (zyn Y_X1_seasonLength).desc).isSome = true := by decide +kernel
theorem KI_X1_seasonLength : Cond.instanceMethod (zyn Y_X1_seasonLength) ∈ lw_all := q1517
def Y_X1_bufferName : ZY := (yX1_bufferName, cX1_bufferName, 3, some (.object "java/lang/String"), none, 7)
theorem K_X1_bufferName : zyc Y_X1_bufferName 0 := ⟨show zcw Y_X1_bufferName ∈ lw_all from q1527, q163, by decide +kernel, ⟨by decide, by decide⟩, Nat.le_of_ble_eq_true rfl⟩
theorem KS_X1_bufferName : (parseMethodDescriptor (zyn Y_X1_bufferName).desc).isSome = true := by decide +kernel
theorem KI_X1_bufferName : Cond.instanceMethod (zyn Y_X1_bufferName) ∈ lw_all := q1526
def Y_X1_findEcho : ZY := (yX1_findEcho, cX1_findEcho, 1, some (.int), none, 8)
theorem K_X1_findEcho : zyc Y_X1_findEcho 0 := ⟨show zcw Y_X1_findEcho ∈ lw_all from q1523, q163, by decide +kernel, ⟨by decide, by decide⟩, Nat.le_of_ble_eq_true rfl⟩
theorem KS_X1_findEcho : (parseMethodDescriptor (zyn Y_X1_findEcho).desc).isSome = true := by decide +kernel
theorem KI_X1_findEcho : Cond.instanceMethod (zyn Y_X1_findEcho) ∈ lw_all := q1521
def Y_X1_findValley : ZY := (yX1_findValley, cX1_findValley, 1, some (.int), none, 8)
theorem K_X1_findValley : zyc Y_X1_findValley 0 := ⟨show zcw Y_X1_findValley ∈ lw_all from q1558, q163, by decide +kernel, ⟨by decide, by decide⟩, Nat.le_of_ble_eq_true rfl⟩
theorem KS_X1_findValley : (parseMethodDescriptor (zyn Y_X1_findValley).desc).isSome = true := by decide +kernel
theorem KI_X1_findValley : Cond.instanceMethod (zyn Y_X1_findValley) ∈ lw_all := q1556
def Y_X1_wantsToHire : ZY := (yX1_wantsToHire, cX1_wantsToHire, 5, some (.boolean), none, 7)
theorem K_X1_wantsToHire : zyc Y_X1_wantsToHire 2 := ⟨show zcw Y_X1_wantsToHire ∈ lw_all from q2015, q163, by decide +kernel, ⟨by decide, by decide⟩, Nat.le_of_ble_eq_true rfl⟩
theorem KS_X1_wantsToHire : (parseMethodDescriptor (zyn Y_X1_wantsToHire).desc).isSome = true := by decide +kernel
theorem KI_X1_wantsToHire : Cond.instanceMethod (zyn Y_X1_wantsToHire) ∈ lw_all := q2014
def Y_X1_wantsToLeave : ZY := (yX1_wantsToLeave, cX1_wantsToLeave, 4, some (.boolean), none, 8)
theorem K_X1_wantsToLeave : zyc Y_X1_wantsToLeave 2 := ⟨show zcw Y_X1_wantsToLeave ∈ lw_all from q2007, q163, by decide +kernel, ⟨by decide, by decide⟩, Nat.le_of_ble_eq_true rfl⟩
theorem KS_X1_wantsToLeave : (parseMethodDescriptor (zyn Y_X1_wantsToLeave).desc).isSome = true := by decide +kernel
theorem KI_X1_wantsToLeave : Cond.instanceMethod (zyn Y_X1_wantsToLeave) ∈ lw_all := q2006
def Y_X1_isBlocking : ZY := (yX1_isBlocking, cX1_isBlocking, 3, some (.boolean), none, 9)
theorem K_X1_isBlocking : zyc Y_X1_isBlocking 2 := ⟨show zcw Y_X1_isBlocking ∈ lw_all from q1571, q163, by decide +kernel, ⟨by decide, by decide⟩, Nat.le_of_ble_eq_true rfl⟩
theorem KS_X1_isBlocking : (parseMethodDescriptor (zyn Y_X1_isBlocking).desc).isSome = true := by decide +kernel
theorem KI_X1_isBlocking : Cond.instanceMethod (zyn Y_X1_isBlocking) ∈ lw_all := q1570
def Y_X1_blockingPairs : ZY := (yX1_blockingPairs, cX1_blockingPairs, 4, some (.int), none, 10)
theorem K_X1_blockingPairs : zyc Y_X1_blockingPairs 0 := ⟨show zcw Y_X1_blockingPairs ∈ lw_all from q1567, q163, by decide +kernel, ⟨by decide, by decide⟩, Nat.le_of_ble_eq_true rfl⟩
theorem KS_X1_blockingPairs : (parseMethodDescriptor (zyn Y_X1_blockingPairs).desc).isSome = true := by decide +kernel
theorem KI_X1_blockingPairs : Cond.instanceMethod (zyn Y_X1_blockingPairs) ∈ lw_all := q1565
def Y_X1_richestEcho : ZY := (yX1_richestEcho, cX1_richestEcho, 3, some (.int), none, 5)
theorem K_X1_richestEcho : zyc Y_X1_richestEcho 0 := ⟨show zcw Y_X1_richestEcho ∈ lw_all from q2027, q163, by decide +kernel, ⟨by decide, by decide⟩, Nat.le_of_ble_eq_true rfl⟩
theorem KS_X1_richestEcho : (parseMethodDescriptor (zyn Y_X1_richestEcho).desc).isSome = true := by decide +kernel
theorem KI_X1_richestEcho : Cond.instanceMethod (zyn Y_X1_richestEcho) ∈ lw_all := q2025
def Y_X1_contractsMade : ZY := (yX1_contractsMade, cX1_contractsMade, 1, some (.int), none, 1)
theorem K_X1_contractsMade : zyc Y_X1_contractsMade 0 := ⟨show zcw Y_X1_contractsMade ∈ lw_all from q2031, q163, by decide +kernel, ⟨by decide, by decide⟩, Nat.le_of_ble_eq_true rfl⟩
theorem KS_X1_contractsMade : (parseMethodDescriptor (zyn Y_X1_contractsMade).desc).isSome = true := by decide +kernel
theorem KI_X1_contractsMade : Cond.instanceMethod (zyn Y_X1_contractsMade) ∈ lw_all := q2029
def Y_X1_contractsEnded : ZY := (yX1_contractsEnded, cX1_contractsEnded, 1, some (.int), none, 1)
theorem K_X1_contractsEnded : zyc Y_X1_contractsEnded 0 := ⟨show zcw Y_X1_contractsEnded ∈ lw_all from q2035, q163, by decide +kernel, ⟨by decide, by decide⟩, Nat.le_of_ble_eq_true rfl⟩
theorem KS_X1_contractsEnded : (parseMethodDescriptor (zyn Y_X1_contractsEnded).desc).isSome = true := by decide +kernel
theorem KI_X1_contractsEnded : Cond.instanceMethod (zyn Y_X1_contractsEnded) ∈ lw_all := q2033
def Y_X1_moneyImbalance : ZY := (yX1_moneyImbalance, cX1_moneyImbalance, 4, some (.int), none, 3)
theorem K_X1_moneyImbalance : zyc Y_X1_moneyImbalance 0 := ⟨show zcw Y_X1_moneyImbalance ∈ lw_all from q2039, q163, by decide +kernel, ⟨by decide, by decide⟩, Nat.le_of_ble_eq_true rfl⟩
theorem KS_X1_moneyImbalance : (parseMethodDescriptor (zyn Y_X1_moneyImbalance).desc).isSome = true := by decide +kernel
theorem KI_X1_moneyImbalance : Cond.instanceMethod (zyn Y_X1_moneyImbalance) ∈ lw_all := q2037
def Y_X1_contracts : ZY := (yX1_contracts, cX1_contracts, 4, some (.int), none, 3)
theorem K_X1_contracts : zyc Y_X1_contracts 0 := ⟨show zcw Y_X1_contracts ∈ lw_all from q2186, q163, by decide +kernel, ⟨by decide, by decide⟩, Nat.le_of_ble_eq_true rfl⟩
theorem KS_X1_contracts : (parseMethodDescriptor (zyn Y_X1_contracts).desc).isSome = true := by decide +kernel
theorem KI_X1_contracts : Cond.instanceMethod (zyn Y_X1_contracts) ∈ lw_all := q2185
def Y_X1_contractImbalance : ZY := (yX1_contractImbalance, cX1_contractImbalance, 1, some (.int), none, 4)
theorem K_X1_contractImbalance : zyc Y_X1_contractImbalance 0 := ⟨show zcw Y_X1_contractImbalance ∈ lw_all from q2182, q163, by decide +kernel, ⟨by decide, by decide⟩, Nat.le_of_ble_eq_true rfl⟩
theorem KS_X1_contractImbalance : (parseMethodDescriptor (zyn Y_X1_contractImbalance).desc).isSome = true := by decide +kernel
theorem KI_X1_contractImbalance : Cond.instanceMethod (zyn Y_X1_contractImbalance) ∈ lw_all := q2180
def Y_X1_serves : ZY := (yX1_serves, cX1_serves, 4, some (.boolean), none, 1)
theorem K_X1_serves : zyc Y_X1_serves 2 := ⟨show zcw Y_X1_serves ∈ lw_all from q2194, q163, by decide +kernel, ⟨by decide, by decide⟩, Nat.le_of_ble_eq_true rfl⟩
theorem KS_X1_serves : (parseMethodDescriptor (zyn Y_X1_serves).desc).isSome = true := by decide +kernel
theorem KI_X1_serves : Cond.instanceMethod (zyn Y_X1_serves) ∈ lw_all := q2193
def Y_X1_doubleServants : ZY := (yX1_doubleServants, cX1_doubleServants, 6, some (.int), none, 3)
theorem K_X1_doubleServants : zyc Y_X1_doubleServants 0 := ⟨show zcw Y_X1_doubleServants ∈ lw_all from q2190, q163, by decide +kernel, ⟨by decide, by decide⟩, Nat.le_of_ble_eq_true rfl⟩
theorem KS_X1_doubleServants : (parseMethodDescriptor (zyn Y_X1_doubleServants).desc).isSome = true := by decide +kernel
theorem KI_X1_doubleServants : Cond.instanceMethod (zyn Y_X1_doubleServants) ∈ lw_all := q2188
def Y_X1_meanSavings : ZY := (yX1_meanSavings, cX1_meanSavings, 4, some (.double), none, 3)
theorem K_X1_meanSavings : zyc Y_X1_meanSavings 0 := ⟨show zcw Y_X1_meanSavings ∈ lw_all from q2198, q163, by decide +kernel, ⟨by decide, by decide⟩, Nat.le_of_ble_eq_true rfl⟩
theorem KS_X1_meanSavings : (parseMethodDescriptor (zyn Y_X1_meanSavings).desc).isSome = true := by decide +kernel
theorem KI_X1_meanSavings : Cond.instanceMethod (zyn Y_X1_meanSavings) ∈ lw_all := q2196
def Y_X1_employmentRate : ZY := (yX1_employmentRate, cX1_employmentRate, 1, some (.float), none, 4)
theorem K_X1_employmentRate : zyc Y_X1_employmentRate 0 := ⟨show zcw Y_X1_employmentRate ∈ lw_all from q2202, q163, by decide +kernel, ⟨by decide, by decide⟩, Nat.le_of_ble_eq_true rfl⟩
theorem KS_X1_employmentRate : (parseMethodDescriptor (zyn Y_X1_employmentRate).desc).isSome = true := by decide +kernel
theorem KI_X1_employmentRate : Cond.instanceMethod (zyn Y_X1_employmentRate) ∈ lw_all := q2200
def Y_X1_holdFair : ZY := (yX1_holdFair, cX1_holdFair, 1, some (.int), none, 16)
theorem K_X1_holdFair : zyc Y_X1_holdFair 0 := ⟨show zcw Y_X1_holdFair ∈ lw_all from q2206, q163, by decide +kernel, ⟨by decide, by decide⟩, Nat.le_of_ble_eq_true rfl⟩
theorem KS_X1_holdFair : (parseMethodDescriptor (zyn Y_X1_holdFair).desc).isSome = true := by decide +kernel
theorem KI_X1_holdFair : Cond.instanceMethod (zyn Y_X1_holdFair) ∈ lw_all := q2204
def Y_X1_lambda_holdFair_1 : ZY := (yX1_lambda_holdFair_1, cX1_lambda_holdFair_1, 1, some (.int), none, 9)
theorem K_X1_lambda_holdFair_1 : zyc Y_X1_lambda_holdFair_1 1 := ⟨show zcw Y_X1_lambda_holdFair_1 ∈ lw_all from q2208, q163, by decide +kernel, ⟨by decide, by decide⟩, Nat.le_of_ble_eq_true rfl⟩
theorem KS_X1_lambda_holdFair_1 : (parseMethodDescriptor (zyn Y_X1_lambda_holdFair_1).desc).isSome = true := by decide +kernel
theorem KT_X1_lambda_holdFair_1 : Cond.static (zyn Y_X1_lambda_holdFair_1) ∈ lw_all := q2207
def Y_X1_save : ZY := (yX1_save, cX1_save, 1, some (.int), none, 9)
theorem K_X1_save : zyc Y_X1_save 0 := ⟨show zcw Y_X1_save ∈ lw_all from q2954, q163, by decide +kernel, ⟨by decide, by decide⟩, Nat.le_of_ble_eq_true rfl⟩
theorem KS_X1_save : (parseMethodDescriptor (zyn Y_X1_save).desc).isSome = true := by decide +kernel
theorem KI_X1_save : Cond.instanceMethod (zyn Y_X1_save) ∈ lw_all := q2952
def Y_J7_inflateIfNeededFor : ZY := (yJ7_inflateIfNeededFor, cJ7_inflateIfNeededFor, 2, none, none, 2)
theorem K_J7_inflateIfNeededFor : zyc Y_J7_inflateIfNeededFor 1 := ⟨show zcw Y_J7_inflateIfNeededFor ∈ lw_all from q437, q172, by decide +kernel, ⟨by decide, by decide⟩, Nat.le_of_ble_eq_true rfl⟩
theorem KS_J7_inflateIfNeededFor : (parseMethodDescriptor (zyn Y_J7_inflateIfNeededFor).desc).isSome = true := by decide +kernel
theorem KI_J7_inflateIfNeededFor : Cond.instanceMethod (zyn Y_J7_inflateIfNeededFor) ∈ lw_all := q436
def Y_J15_inflate : ZY := (yJ15_inflate, cJ15_inflate, 5, none, none, 1)
theorem K_J15_inflate : zyc Y_J15_inflate 5 := ⟨show zcw Y_J15_inflate ∈ lw_all from q445, q181, by decide +kernel, ⟨by decide, by decide⟩, Nat.le_of_ble_eq_true rfl⟩
theorem KS_J15_inflate : (parseMethodDescriptor (zyn Y_J15_inflate).desc).isSome = true := by decide +kernel
theorem KT_J15_inflate : Cond.static (zyn Y_J15_inflate) ∈ lw_all := q444
def Y_J9_getBytes : ZY := (yJ9_getBytes, cJ9_getBytes, 4, none, none, 2)
theorem K_J9_getBytes : zyc Y_J9_getBytes 3 := ⟨show zcw Y_J9_getBytes ∈ lw_all from q461, q174, by decide +kernel, ⟨by decide, by decide⟩, Nat.le_of_ble_eq_true rfl⟩
theorem KS_J9_getBytes : (parseMethodDescriptor (zyn Y_J9_getBytes).desc).isSome = true := by decide +kernel
theorem KI_J9_getBytes : Cond.instanceMethod (zyn Y_J9_getBytes) ∈ lw_all := q459
def Y_J7_putStringAt : ZY := (yJ7_putStringAt, cJ7_putStringAt, 3, none, none, 3)
theorem K_J7_putStringAt : zyc Y_J7_putStringAt 2 := ⟨show zcw Y_J7_putStringAt ∈ lw_all from q433, q172, by decide +kernel, ⟨by decide, by decide⟩, Nat.le_of_ble_eq_true rfl⟩
theorem KS_J7_putStringAt : (parseMethodDescriptor (zyn Y_J7_putStringAt).desc).isSome = true := by decide +kernel
theorem KI_J7_putStringAt : Cond.instanceMethod (zyn Y_J7_putStringAt) ∈ lw_all := q432
def Y_J7_append : ZY := (yJ7_append, cJ7_append, 3, some (.object "java/lang/AbstractStringBuilder"), none, 5)
theorem K_J7_append : zyc Y_J7_append 1 := ⟨show zcw Y_J7_append ∈ lw_all from q350, q172, by decide +kernel, ⟨by decide, by decide⟩, Nat.le_of_ble_eq_true rfl⟩
theorem KS_J7_append : (parseMethodDescriptor (zyn Y_J7_append).desc).isSome = true := by decide +kernel
theorem KI_J7_append : Cond.instanceMethod (zyn Y_J7_append) ∈ lw_all := q349
def Y_J8_append : ZY := (yJ8_append, cJ8_append, 2, some (.object "java/lang/StringBuilder"), none, 6)
theorem K_J8_append : zyc Y_J8_append 1 := ⟨show zcw Y_J8_append ∈ lw_all from q347, q173, by decide +kernel, ⟨by decide, by decide⟩, Nat.le_of_ble_eq_true rfl⟩
theorem KS_J8_append : (parseMethodDescriptor (zyn Y_J8_append).desc).isSome = true := by decide +kernel
theorem KI_J8_append : Cond.instanceMethod (zyn Y_J8_append) ∈ lw_all := q345
def Y_J13_rangeCheck : ZY := (yJ13_rangeCheck, cJ13_rangeCheck, 3, none, none, 1)
theorem K_J13_rangeCheck : zyc Y_J13_rangeCheck 3 := ⟨show zcw Y_J13_rangeCheck ∈ lw_all from q2996, q178, by decide +kernel, ⟨by decide, by decide⟩, Nat.le_of_ble_eq_true rfl⟩
theorem KS_J13_rangeCheck : (parseMethodDescriptor (zyn Y_J13_rangeCheck).desc).isSome = true := by decide +kernel
theorem KT_J13_rangeCheck : Cond.static (zyn Y_J13_rangeCheck) ∈ lw_all := q2995
def Y_J13_fill : ZY := (yJ13_fill, cJ13_fill, 5, none, none, 2)
theorem K_J13_fill : zyc Y_J13_fill 4 := ⟨show zcw Y_J13_fill ∈ lw_all from q2993, q178, by decide +kernel, ⟨by decide, by decide⟩, Nat.le_of_ble_eq_true rfl⟩
theorem KS_J13_fill : (parseMethodDescriptor (zyn Y_J13_fill).desc).isSome = true := by decide +kernel
theorem KT_J13_fill : Cond.static (zyn Y_J13_fill) ∈ lw_all := q2992
def Y_J15_fillNull : ZY := (yJ15_fillNull, cJ15_fillNull, 3, none, none, 3)
theorem K_J15_fillNull : zyc Y_J15_fillNull 3 := ⟨show zcw Y_J15_fillNull ∈ lw_all from q2990, q181, by decide +kernel, ⟨by decide, by decide⟩, Nat.le_of_ble_eq_true rfl⟩
theorem KS_J15_fillNull : (parseMethodDescriptor (zyn Y_J15_fillNull).desc).isSome = true := by decide +kernel
theorem KT_J15_fillNull : Cond.static (zyn Y_J15_fillNull) ∈ lw_all := q2989
def Y_J7_setLength : ZY := (yJ7_setLength, cJ7_setLength, 2, none, none, 5)
theorem K_J7_setLength : zyc Y_J7_setLength 1 := ⟨show zcw Y_J7_setLength ∈ lw_all from q2965, q172, by decide +kernel, ⟨by decide, by decide⟩, Nat.le_of_ble_eq_true rfl⟩
theorem KS_J7_setLength : (parseMethodDescriptor (zyn Y_J7_setLength).desc).isSome = true := by decide +kernel
theorem KI_J7_setLength : Cond.instanceMethod (zyn Y_J7_setLength) ∈ lw_all := q2964
def Y_J8_setLength : ZY := (yJ8_setLength, cJ8_setLength, 2, none, none, 6)
theorem K_J8_setLength : zyc Y_J8_setLength 1 := ⟨show zcw Y_J8_setLength ∈ lw_all from q2962, q173, by decide +kernel, ⟨by decide, by decide⟩, Nat.le_of_ble_eq_true rfl⟩
theorem KS_J8_setLength : (parseMethodDescriptor (zyn Y_J8_setLength).desc).isSome = true := by decide +kernel
theorem KI_J8_setLength : Cond.instanceMethod (zyn Y_J8_setLength) ∈ lw_all := q2960
def Y_X1_formatContracts : ZY := (yX1_formatContracts, cX1_formatContracts, 4, some (.int), none, 7)
theorem K_X1_formatContracts : zyc Y_X1_formatContracts 0 := ⟨show zcw Y_X1_formatContracts ∈ lw_all from q2958, q163, by decide +kernel, ⟨by decide, by decide⟩, Nat.le_of_ble_eq_true rfl⟩
theorem KS_X1_formatContracts : (parseMethodDescriptor (zyn Y_X1_formatContracts).desc).isSome = true := by decide +kernel
theorem KI_X1_formatContracts : Cond.instanceMethod (zyn Y_X1_formatContracts) ∈ lw_all := q2956
def Y_J9_checkIndex : ZY := (yJ9_checkIndex, cJ9_checkIndex, 2, none, none, 2)
theorem K_J9_checkIndex : zyc Y_J9_checkIndex 2 := ⟨show zcw Y_J9_checkIndex ∈ lw_all from q810, q174, by decide +kernel, ⟨by decide, by decide⟩, Nat.le_of_ble_eq_true rfl⟩
theorem KS_J9_checkIndex : (parseMethodDescriptor (zyn Y_J9_checkIndex).desc).isSome = true := by decide +kernel
theorem KT_J9_checkIndex : Cond.static (zyn Y_J9_checkIndex) ∈ lw_all := q809
def Y_J7_charAt : ZY := (yJ7_charAt, cJ7_charAt, 5, some (.char), none, 3)
theorem K_J7_charAt : zyc Y_J7_charAt 1 := ⟨show zcw Y_J7_charAt ∈ lw_all from q927, q172, by decide +kernel, ⟨by decide, by decide⟩, Nat.le_of_ble_eq_true rfl⟩
theorem KS_J7_charAt : (parseMethodDescriptor (zyn Y_J7_charAt).desc).isSome = true := by decide +kernel
theorem KI_J7_charAt : Cond.instanceMethod (zyn Y_J7_charAt) ∈ lw_all := q926
def Y_J8_charAt : ZY := (yJ8_charAt, cJ8_charAt, 2, some (.char), none, 4)
theorem K_J8_charAt : zyc Y_J8_charAt 1 := ⟨show zcw Y_J8_charAt ∈ lw_all from q924, q173, by decide +kernel, ⟨by decide, by decide⟩, Nat.le_of_ble_eq_true rfl⟩
theorem KS_J8_charAt : (parseMethodDescriptor (zyn Y_J8_charAt).desc).isSome = true := by decide +kernel
theorem KI_J8_charAt : Cond.instanceMethod (zyn Y_J8_charAt) ∈ lw_all := q922
def Y_X1_outputByte : ZY := (yX1_outputByte, cX1_outputByte, 2, some (.int), none, 5)
theorem K_X1_outputByte : zyc Y_X1_outputByte 1 := ⟨show zcw Y_X1_outputByte ∈ lw_all from q3032, q163, by decide +kernel, ⟨by decide, by decide⟩, Nat.le_of_ble_eq_true rfl⟩
theorem KS_X1_outputByte : (parseMethodDescriptor (zyn Y_X1_outputByte).desc).isSome = true := by decide +kernel
theorem KI_X1_outputByte : Cond.instanceMethod (zyn Y_X1_outputByte) ∈ lw_all := q3030
def Y_X1_report : ZY := (yX1_report, cX1_report, 2, some (.object "java/lang/IllegalArgumentException"), none, 6)
theorem K_X1_report : zyc Y_X1_report 1 := ⟨show zcw Y_X1_report ∈ lw_all from q3264, q163, by decide +kernel, ⟨by decide, by decide⟩, Nat.le_of_ble_eq_true rfl⟩
theorem KS_X1_report : (parseMethodDescriptor (zyn Y_X1_report).desc).isSome = true := by decide +kernel
theorem KI_X1_report : Cond.instanceMethod (zyn Y_X1_report) ∈ lw_all := q3263
def Y_X2_desertions : ZY := (yX2_desertions, cX2_desertions, 4, some (.int), none, 3)
theorem K_X2_desertions : zyc Y_X2_desertions 0 := ⟨show zcw Y_X2_desertions ∈ lw_all from q3323, q164, by decide +kernel, ⟨by decide, by decide⟩, Nat.le_of_ble_eq_true rfl⟩
theorem KS_X2_desertions : (parseMethodDescriptor (zyn Y_X2_desertions).desc).isSome = true := by decide +kernel
theorem KI_X2_desertions : Cond.instanceMethod (zyn Y_X2_desertions) ∈ lw_all := q3321
def Y_X2_passDays : ZY := (yX2_passDays, cX2_passDays, 3, some (.int), none, 12)
theorem K_X2_passDays : zyc Y_X2_passDays 1 := ⟨show zcw Y_X2_passDays ∈ lw_all from q3319, q164, by decide +kernel, ⟨by decide, by decide⟩, Nat.le_of_ble_eq_true rfl⟩
theorem KS_X2_passDays : (parseMethodDescriptor (zyn Y_X2_passDays).desc).isSome = true := by decide +kernel
theorem KI_X2_passDays : Cond.instanceMethod (zyn Y_X2_passDays) ∈ lw_all := q3317
def Y_X1_lambda_passDays_0 : ZY := (yX1_lambda_passDays_0, cX1_lambda_passDays_0, 2, some (.int), none, 13)
theorem K_X1_lambda_passDays_0 : zyc Y_X1_lambda_passDays_0 2 := ⟨show zcw Y_X1_lambda_passDays_0 ∈ lw_all from q3727, q163, by decide +kernel, ⟨by decide, by decide⟩, Nat.le_of_ble_eq_true rfl⟩
theorem KS_X1_lambda_passDays_0 : (parseMethodDescriptor (zyn Y_X1_lambda_passDays_0).desc).isSome = true := by decide +kernel
theorem KT_X1_lambda_passDays_0 : Cond.static (zyn Y_X1_lambda_passDays_0) ∈ lw_all := q3726
def Y_X2_test : ZY := (yX2_test, cX2_test, 3, some (.int), none, 7)
theorem K_X2_test : zyc Y_X2_test 2 := ⟨show zcw Y_X2_test ∈ lw_all from q3409, q164, by decide +kernel, ⟨by decide, by decide⟩, Nat.le_of_ble_eq_true rfl⟩
theorem KS_X2_test : (parseMethodDescriptor (zyn Y_X2_test).desc).isSome = true := by decide +kernel
theorem KI_X2_test : Cond.instanceMethod (zyn Y_X2_test) ∈ lw_all := q3407
def Y_X1_lambda_test_2 : ZY := (yX1_lambda_test_2, cX1_lambda_test_2, 3, some (.int), none, 8)
theorem K_X1_lambda_test_2 : zyc Y_X1_lambda_test_2 3 := ⟨show zcw Y_X1_lambda_test_2 ∈ lw_all from q3737, q163, by decide +kernel, ⟨by decide, by decide⟩, Nat.le_of_ble_eq_true rfl⟩
theorem KS_X1_lambda_test_2 : (parseMethodDescriptor (zyn Y_X1_lambda_test_2).desc).isSome = true := by decide +kernel
theorem KT_X1_lambda_test_2 : Cond.static (zyn Y_X1_lambda_test_2) ∈ lw_all := q3736
def Y_X2_dismiss : ZY := (yX2_dismiss, cX2_dismiss, 2, some (.int), none, 7)
theorem K_X2_dismiss : zyc Y_X2_dismiss 1 := ⟨show zcw Y_X2_dismiss ∈ lw_all from q3420, q164, by decide +kernel, ⟨by decide, by decide⟩, Nat.le_of_ble_eq_true rfl⟩
theorem KS_X2_dismiss : (parseMethodDescriptor (zyn Y_X2_dismiss).desc).isSome = true := by decide +kernel
theorem KI_X2_dismiss : Cond.instanceMethod (zyn Y_X2_dismiss) ∈ lw_all := q3418
def Y_X1_lambda_dismiss_3 : ZY := (yX1_lambda_dismiss_3, cX1_lambda_dismiss_3, 2, some (.int), none, 8)
theorem K_X1_lambda_dismiss_3 : zyc Y_X1_lambda_dismiss_3 2 := ⟨show zcw Y_X1_lambda_dismiss_3 ∈ lw_all from q3747, q163, by decide +kernel, ⟨by decide, by decide⟩, Nat.le_of_ble_eq_true rfl⟩
theorem KS_X1_lambda_dismiss_3 : (parseMethodDescriptor (zyn Y_X1_lambda_dismiss_3).desc).isSome = true := by decide +kernel
theorem KT_X1_lambda_dismiss_3 : Cond.static (zyn Y_X1_lambda_dismiss_3) ∈ lw_all := q3746
def Y_X2_setWage : ZY := (yX2_setWage, cX2_setWage, 4, some (.int), none, 5)
theorem K_X2_setWage : zyc Y_X2_setWage 2 := ⟨show zcw Y_X2_setWage ∈ lw_all from q3430, q164, by decide +kernel, ⟨by decide, by decide⟩, Nat.le_of_ble_eq_true rfl⟩
theorem KS_X2_setWage : (parseMethodDescriptor (zyn Y_X2_setWage).desc).isSome = true := by decide +kernel
theorem KI_X2_setWage : Cond.instanceMethod (zyn Y_X2_setWage) ∈ lw_all := q3428
def Y_X1_lambda_setWage_4 : ZY := (yX1_lambda_setWage_4, cX1_lambda_setWage_4, 3, some (.int), none, 6)
theorem K_X1_lambda_setWage_4 : zyc Y_X1_lambda_setWage_4 3 := ⟨show zcw Y_X1_lambda_setWage_4 ∈ lw_all from q3758, q163, by decide +kernel, ⟨by decide, by decide⟩, Nat.le_of_ble_eq_true rfl⟩
theorem KS_X1_lambda_setWage_4 : (parseMethodDescriptor (zyn Y_X1_lambda_setWage_4).desc).isSome = true := by decide +kernel
theorem KT_X1_lambda_setWage_4 : Cond.static (zyn Y_X1_lambda_setWage_4) ∈ lw_all := q3757
def Y_X2_fund : ZY := (yX2_fund, cX2_fund, 3, some (.int), none, 5)
theorem K_X2_fund : zyc Y_X2_fund 2 := ⟨show zcw Y_X2_fund ∈ lw_all from q3440, q164, by decide +kernel, ⟨by decide, by decide⟩, Nat.le_of_ble_eq_true rfl⟩
theorem KS_X2_fund : (parseMethodDescriptor (zyn Y_X2_fund).desc).isSome = true := by decide +kernel
theorem KI_X2_fund : Cond.instanceMethod (zyn Y_X2_fund) ∈ lw_all := q3438
def Y_X1_lambda_fund_5 : ZY := (yX1_lambda_fund_5, cX1_lambda_fund_5, 3, some (.int), none, 6)
theorem K_X1_lambda_fund_5 : zyc Y_X1_lambda_fund_5 3 := ⟨show zcw Y_X1_lambda_fund_5 ∈ lw_all from q3769, q163, by decide +kernel, ⟨by decide, by decide⟩, Nat.le_of_ble_eq_true rfl⟩
theorem KS_X1_lambda_fund_5 : (parseMethodDescriptor (zyn Y_X1_lambda_fund_5).desc).isSome = true := by decide +kernel
theorem KT_X1_lambda_fund_5 : Cond.static (zyn Y_X1_lambda_fund_5) ∈ lw_all := q3768
def Y_X3_trainingCost : ZY := (yX3_trainingCost, cX3_trainingCost, 1, some (.int), none, 1)
theorem K_X3_trainingCost : zyc Y_X3_trainingCost 0 := ⟨show zcw Y_X3_trainingCost ∈ lw_all from q3454, q197, by decide +kernel, ⟨by decide, by decide⟩, Nat.le_of_ble_eq_true rfl⟩
theorem KS_X3_trainingCost : (parseMethodDescriptor (zyn Y_X3_trainingCost).desc).isSome = true := by decide +kernel
theorem KI_X3_trainingCost : Cond.instanceMethod (zyn Y_X3_trainingCost) ∈ lw_all := q3452
def Y_X2_train : ZY := (yX2_train, cX2_train, 4, some (.int), none, 7)
theorem K_X2_train : zyc Y_X2_train 1 := ⟨show zcw Y_X2_train ∈ lw_all from q3450, q164, by decide +kernel, ⟨by decide, by decide⟩, Nat.le_of_ble_eq_true rfl⟩
theorem KS_X2_train : (parseMethodDescriptor (zyn Y_X2_train).desc).isSome = true := by decide +kernel
theorem KI_X2_train : Cond.instanceMethod (zyn Y_X2_train) ∈ lw_all := q3448
def Y_X1_lambda_train_6 : ZY := (yX1_lambda_train_6, cX1_lambda_train_6, 2, some (.int), none, 8)
theorem K_X1_lambda_train_6 : zyc Y_X1_lambda_train_6 2 := ⟨show zcw Y_X1_lambda_train_6 ∈ lw_all from q3779, q163, by decide +kernel, ⟨by decide, by decide⟩, Nat.le_of_ble_eq_true rfl⟩
theorem KS_X1_lambda_train_6 : (parseMethodDescriptor (zyn Y_X1_lambda_train_6).desc).isSome = true := by decide +kernel
theorem KT_X1_lambda_train_6 : Cond.static (zyn Y_X1_lambda_train_6) ∈ lw_all := q3778
def Y_X5_copies : ZY := (yX5_copies, cX5_copies, 5, none, none, 1)
theorem K_X5_copies : zyc Y_X5_copies 4 := ⟨show zcw Y_X5_copies ∈ lw_all from q3822, q200, by decide +kernel, ⟨by decide, by decide⟩, Nat.le_of_ble_eq_true rfl⟩
theorem KS_X5_copies : (parseMethodDescriptor (zyn Y_X5_copies).desc).isSome = true := by decide +kernel
theorem KT_X5_copies : Cond.static (zyn Y_X5_copies) ∈ lw_all := q3821
def Y_X5_endsText : ZY := (yX5_endsText, cX5_endsText, 1, some (.boolean), none, 1)
theorem K_X5_endsText : zyc Y_X5_endsText 0 := ⟨show zcw Y_X5_endsText ∈ lw_all from q3933, q200, by decide +kernel, ⟨by decide, by decide⟩, Nat.le_of_ble_eq_true rfl⟩
theorem KS_X5_endsText : (parseMethodDescriptor (zyn Y_X5_endsText).desc).isSome = true := by decide +kernel
theorem KI_X5_endsText : Cond.instanceMethod (zyn Y_X5_endsText) ∈ lw_all := q3932
def Y_X5_in : ZY := (yX5_in, cX5_in, 6, some (.boolean), none, 1)
theorem K_X5_in : zyc Y_X5_in 3 := ⟨show zcw Y_X5_in ∈ lw_all from q3848, q200, by decide +kernel, ⟨by decide, by decide⟩, Nat.le_of_ble_eq_true rfl⟩
theorem KS_X5_in : (parseMethodDescriptor (zyn Y_X5_in).desc).isSome = true := by decide +kernel
theorem KT_X5_in : Cond.static (zyn Y_X5_in) ∈ lw_all := q3847
def Y_X5_byteAt : ZY := (yX5_byteAt, cX5_byteAt, 2, some (.int), none, 1)
theorem K_X5_byteAt : zyc Y_X5_byteAt 1 := ⟨show zcw Y_X5_byteAt ∈ lw_all from q3843, q200, by decide +kernel, ⟨by decide, by decide⟩, Nat.le_of_ble_eq_true rfl⟩
theorem KS_X5_byteAt : (parseMethodDescriptor (zyn Y_X5_byteAt).desc).isSome = true := by decide +kernel
theorem KI_X5_byteAt : Cond.instanceMethod (zyn Y_X5_byteAt) ∈ lw_all := q3842
def Y_X5_next : ZY := (yX5_next, cX5_next, 1, some (.int), none, 2)
theorem K_X5_next : zyc Y_X5_next 0 := ⟨show zcw Y_X5_next ∈ lw_all from q3839, q200, by decide +kernel, ⟨by decide, by decide⟩, Nat.le_of_ble_eq_true rfl⟩
theorem KS_X5_next : (parseMethodDescriptor (zyn Y_X5_next).desc).isSome = true := by decide +kernel
theorem KI_X5_next : Cond.instanceMethod (zyn Y_X5_next) ∈ lw_all := q3838
def Y_X5_isNumberNext : ZY := (yX5_isNumberNext, cX5_isNumberNext, 1, some (.boolean), none, 3)
theorem K_X5_isNumberNext : zyc Y_X5_isNumberNext 0 := ⟨show zcw Y_X5_isNumberNext ∈ lw_all from q3875, q200, by decide +kernel, ⟨by decide, by decide⟩, Nat.le_of_ble_eq_true rfl⟩
theorem KS_X5_isNumberNext : (parseMethodDescriptor (zyn Y_X5_isNumberNext).desc).isSome = true := by decide +kernel
theorem KI_X5_isNumberNext : Cond.instanceMethod (zyn Y_X5_isNumberNext) ∈ lw_all := q3874
def Y_X5_goesPast : ZY := (yX5_goesPast, cX5_goesPast, 1, none, none, 1)
theorem K_X5_goesPast : zyc Y_X5_goesPast 0 := ⟨show zcw Y_X5_goesPast ∈ lw_all from q3856, q200, by decide +kernel, ⟨by decide, by decide⟩, Nat.le_of_ble_eq_true rfl⟩
theorem KS_X5_goesPast : (parseMethodDescriptor (zyn Y_X5_goesPast).desc).isSome = true := by decide +kernel
theorem KI_X5_goesPast : Cond.instanceMethod (zyn Y_X5_goesPast) ∈ lw_all := q3855
def Y_X5_must : ZY := (yX5_must, cX5_must, 3, none, none, 1)
theorem K_X5_must : zyc Y_X5_must 2 := ⟨show zcw Y_X5_must ∈ lw_all from q3852, q200, by decide +kernel, ⟨by decide, by decide⟩, Nat.le_of_ble_eq_true rfl⟩
theorem KS_X5_must : (parseMethodDescriptor (zyn Y_X5_must).desc).isSome = true := by decide +kernel
theorem KI_X5_must : Cond.instanceMethod (zyn Y_X5_must) ∈ lw_all := q3851
def Y_J15_charAt : ZY := (yJ15_charAt, cJ15_charAt, 2, some (.char), none, 3)
theorem K_J15_charAt : zyc Y_J15_charAt 2 := ⟨show zcw Y_J15_charAt ∈ lw_all from q905, q181, by decide +kernel, ⟨by decide, by decide⟩, Nat.le_of_ble_eq_true rfl⟩
theorem KS_J15_charAt : (parseMethodDescriptor (zyn Y_J15_charAt).desc).isSome = true := by decide +kernel
theorem KT_J15_charAt : Cond.static (zyn Y_J15_charAt) ∈ lw_all := q904
def Y_J9_charAt : ZY := (yJ9_charAt, cJ9_charAt, 2, some (.char), none, 4)
theorem K_J9_charAt : zyc Y_J9_charAt 1 := ⟨show zcw Y_J9_charAt ∈ lw_all from q901, q174, by decide +kernel, ⟨by decide, by decide⟩, Nat.le_of_ble_eq_true rfl⟩
theorem KS_J9_charAt : (parseMethodDescriptor (zyn Y_J9_charAt).desc).isSome = true := by decide +kernel
theorem KI_J9_charAt : Cond.instanceMethod (zyn Y_J9_charAt) ∈ lw_all := q899
def Y_X5_sees : ZY := (yX5_sees, cX5_sees, 4, some (.boolean), none, 5)
theorem K_X5_sees : zyc Y_X5_sees 1 := ⟨show zcw Y_X5_sees ∈ lw_all from q3835, q200, by decide +kernel, ⟨by decide, by decide⟩, Nat.le_of_ble_eq_true rfl⟩
theorem KS_X5_sees : (parseMethodDescriptor (zyn Y_X5_sees).desc).isSome = true := by decide +kernel
theorem KI_X5_sees : Cond.instanceMethod (zyn Y_X5_sees) ∈ lw_all := q3834
def Y_X5_keyword : ZY := (yX5_keyword, cX5_keyword, 2, none, none, 6)
theorem K_X5_keyword : zyc Y_X5_keyword 1 := ⟨show zcw Y_X5_keyword ∈ lw_all from q3831, q200, by decide +kernel, ⟨by decide, by decide⟩, Nat.le_of_ble_eq_true rfl⟩
theorem KS_X5_keyword : (parseMethodDescriptor (zyn Y_X5_keyword).desc).isSome = true := by decide +kernel
theorem KI_X5_keyword : Cond.instanceMethod (zyn Y_X5_keyword) ∈ lw_all := q3830
def Y_X5_number : ZY := (yX5_number, cX5_number, 4, some (.int), none, 3)
theorem K_X5_number : zyc Y_X5_number 2 := ⟨show zcw Y_X5_number ∈ lw_all from q3860, q200, by decide +kernel, ⟨by decide, by decide⟩, Nat.le_of_ble_eq_true rfl⟩
theorem KS_X5_number : (parseMethodDescriptor (zyn Y_X5_number).desc).isSome = true := by decide +kernel
theorem KI_X5_number : Cond.instanceMethod (zyn Y_X5_number) ∈ lw_all := q3859
def Y_X5_semicolon : ZY := (yX5_semicolon, cX5_semicolon, 1, none, none, 3)
theorem K_X5_semicolon : zyc Y_X5_semicolon 0 := ⟨show zcw Y_X5_semicolon ∈ lw_all from q3866, q200, by decide +kernel, ⟨by decide, by decide⟩, Nat.le_of_ble_eq_true rfl⟩
theorem KS_X5_semicolon : (parseMethodDescriptor (zyn Y_X5_semicolon).desc).isSome = true := by decide +kernel
theorem KI_X5_semicolon : Cond.instanceMethod (zyn Y_X5_semicolon) ∈ lw_all := q3865
def Y_X5_fogLine : ZY := (yX5_fogLine, cX5_fogLine, 2, none, none, 7)
theorem K_X5_fogLine : zyc Y_X5_fogLine 0 := ⟨show zcw Y_X5_fogLine ∈ lw_all from q3870, q200, by decide +kernel, ⟨by decide, by decide⟩, Nat.le_of_ble_eq_true rfl⟩
theorem KS_X5_fogLine : (parseMethodDescriptor (zyn Y_X5_fogLine).desc).isSome = true := by decide +kernel
theorem KI_X5_fogLine : Cond.instanceMethod (zyn Y_X5_fogLine) ∈ lw_all := q3869
def Y_X5_passes : ZY := (yX5_passes, cX5_passes, 2, some (.boolean), none, 1)
theorem K_X5_passes : zyc Y_X5_passes 1 := ⟨show zcw Y_X5_passes ∈ lw_all from q3937, q200, by decide +kernel, ⟨by decide, by decide⟩, Nat.le_of_ble_eq_true rfl⟩
theorem KS_X5_passes : (parseMethodDescriptor (zyn Y_X5_passes).desc).isSome = true := by decide +kernel
theorem KI_X5_passes : Cond.instanceMethod (zyn Y_X5_passes) ∈ lw_all := q3936
def Y_X5_startsText : ZY := (yX5_startsText, cX5_startsText, 1, none, none, 1)
theorem K_X5_startsText : zyc Y_X5_startsText 0 := ⟨show zcw Y_X5_startsText ∈ lw_all from q3826, q200, by decide +kernel, ⟨by decide, by decide⟩, Nat.le_of_ble_eq_true rfl⟩
theorem KS_X5_startsText : (parseMethodDescriptor (zyn Y_X5_startsText).desc).isSome = true := by decide +kernel
theorem KI_X5_startsText : Cond.instanceMethod (zyn Y_X5_startsText) ∈ lw_all := q3825
def Y_X5_isName : ZY := (yX5_isName, cX5_isName, 2, some (.boolean), none, 3)
theorem K_X5_isName : zyc Y_X5_isName 0 := ⟨show zcw Y_X5_isName ∈ lw_all from q3895, q200, by decide +kernel, ⟨by decide, by decide⟩, Nat.le_of_ble_eq_true rfl⟩
theorem KS_X5_isName : (parseMethodDescriptor (zyn Y_X5_isName).desc).isSome = true := by decide +kernel
theorem KI_X5_isName : Cond.instanceMethod (zyn Y_X5_isName) ∈ lw_all := q3894
def Y_X5_isNamed : ZY := (yX5_isNamed, cX5_isNamed, 3, some (.boolean), none, 2)
theorem K_X5_isNamed : zyc Y_X5_isNamed 1 := ⟨show zcw Y_X5_isNamed ∈ lw_all from q3904, q200, by decide +kernel, ⟨by decide, by decide⟩, Nat.le_of_ble_eq_true rfl⟩
theorem KS_X5_isNamed : (parseMethodDescriptor (zyn Y_X5_isNamed).desc).isSome = true := by decide +kernel
theorem KI_X5_isNamed : Cond.instanceMethod (zyn Y_X5_isNamed) ∈ lw_all := q3903
def Y_X5_placeOf : ZY := (yX5_placeOf, cX5_placeOf, 2, some (.int), none, 1)
theorem K_X5_placeOf : zyc Y_X5_placeOf 2 := ⟨show zcw Y_X5_placeOf ∈ lw_all from q3887, q200, by decide +kernel, ⟨by decide, by decide⟩, Nat.le_of_ble_eq_true rfl⟩
theorem KS_X5_placeOf : (parseMethodDescriptor (zyn Y_X5_placeOf).desc).isSome = true := by decide +kernel
theorem KT_X5_placeOf : Cond.static (zyn Y_X5_placeOf) ∈ lw_all := q3886
def Y_X5_thingHere : ZY := (yX5_thingHere, cX5_thingHere, 3, some (.int), none, 3)
theorem K_X5_thingHere : zyc Y_X5_thingHere 1 := ⟨show zcw Y_X5_thingHere ∈ lw_all from q3900, q200, by decide +kernel, ⟨by decide, by decide⟩, Nat.le_of_ble_eq_true rfl⟩
theorem KS_X5_thingHere : (parseMethodDescriptor (zyn Y_X5_thingHere).desc).isSome = true := by decide +kernel
theorem KI_X5_thingHere : Cond.instanceMethod (zyn Y_X5_thingHere) ∈ lw_all := q3899
def Y_X5_newName : ZY := (yX5_newName, cX5_newName, 4, none, none, 4)
theorem K_X5_newName : zyc Y_X5_newName 2 := ⟨show zcw Y_X5_newName ∈ lw_all from q3891, q200, by decide +kernel, ⟨by decide, by decide⟩, Nat.le_of_ble_eq_true rfl⟩
theorem KS_X5_newName : (parseMethodDescriptor (zyn Y_X5_newName).desc).isSome = true := by decide +kernel
theorem KI_X5_newName : Cond.instanceMethod (zyn Y_X5_newName) ∈ lw_all := q3890
def Y_X5_puts : ZY := (yX5_puts, cX5_puts, 4, none, none, 1)
theorem K_X5_puts : zyc Y_X5_puts 3 := ⟨show zcw Y_X5_puts ∈ lw_all from q3908, q200, by decide +kernel, ⟨by decide, by decide⟩, Nat.le_of_ble_eq_true rfl⟩
theorem KS_X5_puts : (parseMethodDescriptor (zyn Y_X5_puts).desc).isSome = true := by decide +kernel
theorem KI_X5_puts : Cond.instanceMethod (zyn Y_X5_puts) ∈ lw_all := q3907
def Y_X5_echoLine : ZY := (yX5_echoLine, cX5_echoLine, 6, none, none, 5)
theorem K_X5_echoLine : zyc Y_X5_echoLine 0 := ⟨show zcw Y_X5_echoLine ∈ lw_all from q3884, q200, by decide +kernel, ⟨by decide, by decide⟩, Nat.le_of_ble_eq_true rfl⟩
theorem KS_X5_echoLine : (parseMethodDescriptor (zyn Y_X5_echoLine).desc).isSome = true := by decide +kernel
theorem KI_X5_echoLine : Cond.instanceMethod (zyn Y_X5_echoLine) ∈ lw_all := q3883
def Y_X5_mustBe : ZY := (yX5_mustBe, cX5_mustBe, 3, some (.int), none, 4)
theorem K_X5_mustBe : zyc Y_X5_mustBe 1 := ⟨show zcw Y_X5_mustBe ∈ lw_all from q3926, q200, by decide +kernel, ⟨by decide, by decide⟩, Nat.le_of_ble_eq_true rfl⟩
theorem KS_X5_mustBe : (parseMethodDescriptor (zyn Y_X5_mustBe).desc).isSome = true := by decide +kernel
theorem KI_X5_mustBe : Cond.instanceMethod (zyn Y_X5_mustBe) ∈ lw_all := q3925
def Y_X5_pair : ZY := (yX5_pair, cX5_pair, 3, some (.int), none, 1)
theorem K_X5_pair : zyc Y_X5_pair 3 := ⟨show zcw Y_X5_pair ∈ lw_all from q3929, q200, by decide +kernel, ⟨by decide, by decide⟩, Nat.le_of_ble_eq_true rfl⟩
theorem KS_X5_pair : (parseMethodDescriptor (zyn Y_X5_pair).desc).isSome = true := by decide +kernel
theorem KT_X5_pair : Cond.static (zyn Y_X5_pair) ∈ lw_all := q3928
def Y_X5_testedLine : ZY := (yX5_testedLine, cX5_testedLine, 3, none, none, 5)
theorem K_X5_testedLine : zyc Y_X5_testedLine 0 := ⟨show zcw Y_X5_testedLine ∈ lw_all from q3922, q200, by decide +kernel, ⟨by decide, by decide⟩, Nat.le_of_ble_eq_true rfl⟩
theorem KS_X5_testedLine : (parseMethodDescriptor (zyn Y_X5_testedLine).desc).isSome = true := by decide +kernel
theorem KI_X5_testedLine : Cond.instanceMethod (zyn Y_X5_testedLine) ∈ lw_all := q3921
def Y_X5_putsValley : ZY := (yX5_putsValley, cX5_putsValley, 4, none, none, 1)
theorem K_X5_putsValley : zyc Y_X5_putsValley 3 := ⟨show zcw Y_X5_putsValley ∈ lw_all from q3917, q200, by decide +kernel, ⟨by decide, by decide⟩, Nat.le_of_ble_eq_true rfl⟩
theorem KS_X5_putsValley : (parseMethodDescriptor (zyn Y_X5_putsValley).desc).isSome = true := by decide +kernel
theorem KI_X5_putsValley : Cond.instanceMethod (zyn Y_X5_putsValley) ∈ lw_all := q3916
def Y_X5_valleyLine : ZY := (yX5_valleyLine, cX5_valleyLine, 6, none, none, 5)
theorem K_X5_valleyLine : zyc Y_X5_valleyLine 0 := ⟨show zcw Y_X5_valleyLine ∈ lw_all from q3913, q200, by decide +kernel, ⟨by decide, by decide⟩, Nat.le_of_ble_eq_true rfl⟩
theorem KS_X5_valleyLine : (parseMethodDescriptor (zyn Y_X5_valleyLine).desc).isSome = true := by decide +kernel
theorem KI_X5_valleyLine : Cond.instanceMethod (zyn Y_X5_valleyLine) ∈ lw_all := q3912
def Y_X5_statement : ZY := (yX5_statement, cX5_statement, 2, none, none, 6)
theorem K_X5_statement : zyc Y_X5_statement 0 := ⟨show zcw Y_X5_statement ∈ lw_all from q3879, q200, by decide +kernel, ⟨by decide, by decide⟩, Nat.le_of_ble_eq_true rfl⟩
theorem KS_X5_statement : (parseMethodDescriptor (zyn Y_X5_statement).desc).isSome = true := by decide +kernel
theorem KI_X5_statement : Cond.instanceMethod (zyn Y_X5_statement) ∈ lw_all := q3878
def Y_X5_load : ZY := (yX5_load, cX5_load, 2, some (.int), none, 8)
theorem K_X5_load : zyc Y_X5_load 0 := ⟨show zcw Y_X5_load ∈ lw_all from q3819, q200, by decide +kernel, ⟨by decide, by decide⟩, Nat.le_of_ble_eq_true rfl⟩
theorem KS_X5_load : (parseMethodDescriptor (zyn Y_X5_load).desc).isSome = true := by decide +kernel
theorem KI_X5_load : Cond.instanceMethod (zyn Y_X5_load) ∈ lw_all := q3817
def Y_X5_init : ZY := (yX5_init, cX5_init, 3, none, none, 9)
theorem K_X5_init : zyc Y_X5_init 0 := ⟨show zcw Y_X5_init ∈ lw_all from q3811, q200, by decide +kernel, ⟨by decide, by decide⟩, Nat.le_of_ble_eq_true rfl⟩
theorem KS_X5_init : (parseMethodDescriptor (zyn Y_X5_init).desc).isSome = true := by decide +kernel
theorem KI_X5_init : Cond.instanceMethod (zyn Y_X5_init) ∈ lw_all := q3810
def Y_X5_thrown : ZY := (yX5_thrown, cX5_thrown, 1, some (.int), none, 1)
theorem K_X5_thrown : zyc Y_X5_thrown 0 := ⟨show zcw Y_X5_thrown ∈ lw_all from q4026, q200, by decide +kernel, ⟨by decide, by decide⟩, Nat.le_of_ble_eq_true rfl⟩
theorem KS_X5_thrown : (parseMethodDescriptor (zyn Y_X5_thrown).desc).isSome = true := by decide +kernel
theorem KI_X5_thrown : Cond.instanceMethod (zyn Y_X5_thrown) ∈ lw_all := q4024
def Y_X5_four : ZY := (yX5_four, cX5_four, 3, none, none, 1)
theorem K_X5_four : zyc Y_X5_four 1 := ⟨show zcw Y_X5_four ∈ lw_all from q4034, q200, by decide +kernel, ⟨by decide, by decide⟩, Nat.le_of_ble_eq_true rfl⟩
theorem KS_X5_four : (parseMethodDescriptor (zyn Y_X5_four).desc).isSome = true := by decide +kernel
theorem KI_X5_four : Cond.instanceMethod (zyn Y_X5_four) ∈ lw_all := q4033
def Y_X5_append : ZY := (yX5_append, cX5_append, 6, some (.int), none, 2)
theorem K_X5_append : zyc Y_X5_append 5 := ⟨show zcw Y_X5_append ∈ lw_all from q4030, q200, by decide +kernel, ⟨by decide, by decide⟩, Nat.le_of_ble_eq_true rfl⟩
theorem KS_X5_append : (parseMethodDescriptor (zyn Y_X5_append).desc).isSome = true := by decide +kernel
theorem KI_X5_append : Cond.instanceMethod (zyn Y_X5_append) ∈ lw_all := q4028
def Y_X5_truncate : ZY := (yX5_truncate, cX5_truncate, 2, some (.int), none, 2)
theorem K_X5_truncate : zyc Y_X5_truncate 1 := ⟨show zcw Y_X5_truncate ∈ lw_all from q4038, q200, by decide +kernel, ⟨by decide, by decide⟩, Nat.le_of_ble_eq_true rfl⟩
theorem KS_X5_truncate : (parseMethodDescriptor (zyn Y_X5_truncate).desc).isSome = true := by decide +kernel
theorem KI_X5_truncate : Cond.instanceMethod (zyn Y_X5_truncate) ∈ lw_all := q4036
def Y_X5_errorCode : ZY := (yX5_errorCode, cX5_errorCode, 1, some (.int), none, 1)
theorem K_X5_errorCode : zyc Y_X5_errorCode 0 := ⟨show zcw Y_X5_errorCode ∈ lw_all from q4042, q200, by decide +kernel, ⟨by decide, by decide⟩, Nat.le_of_ble_eq_true rfl⟩
theorem KS_X5_errorCode : (parseMethodDescriptor (zyn Y_X5_errorCode).desc).isSome = true := by decide +kernel
theorem KI_X5_errorCode : Cond.instanceMethod (zyn Y_X5_errorCode) ∈ lw_all := q4040
def Y_X5_errorPosition : ZY := (yX5_errorPosition, cX5_errorPosition, 1, some (.int), none, 1)
theorem K_X5_errorPosition : zyc Y_X5_errorPosition 0 := ⟨show zcw Y_X5_errorPosition ∈ lw_all from q4046, q200, by decide +kernel, ⟨by decide, by decide⟩, Nat.le_of_ble_eq_true rfl⟩
theorem KS_X5_errorPosition : (parseMethodDescriptor (zyn Y_X5_errorPosition).desc).isSome = true := by decide +kernel
theorem KI_X5_errorPosition : Cond.instanceMethod (zyn Y_X5_errorPosition) ∈ lw_all := q4044
def Y_X5_of : ZY := (yX5_of, cX5_of, 3, some (.int), none, 1)
theorem K_X5_of : zyc Y_X5_of 2 := ⟨show zcw Y_X5_of ∈ lw_all from q4093, q200, by decide +kernel, ⟨by decide, by decide⟩, Nat.le_of_ble_eq_true rfl⟩
theorem KS_X5_of : (parseMethodDescriptor (zyn Y_X5_of).desc).isSome = true := by decide +kernel
theorem KI_X5_of : Cond.instanceMethod (zyn Y_X5_of) ∈ lw_all := q4092
def Y_X5_employer : ZY := (yX5_employer, cX5_employer, 2, some (.int), none, 2)
theorem K_X5_employer : zyc Y_X5_employer 1 := ⟨show zcw Y_X5_employer ∈ lw_all from q4117, q200, by decide +kernel, ⟨by decide, by decide⟩, Nat.le_of_ble_eq_true rfl⟩
theorem KS_X5_employer : (parseMethodDescriptor (zyn Y_X5_employer).desc).isSome = true := by decide +kernel
theorem KI_X5_employer : Cond.instanceMethod (zyn Y_X5_employer) ∈ lw_all := q4116
def Y_X5_ofValley : ZY := (yX5_ofValley, cX5_ofValley, 3, some (.int), none, 1)
theorem K_X5_ofValley : zyc Y_X5_ofValley 2 := ⟨show zcw Y_X5_ofValley ∈ lw_all from q4121, q200, by decide +kernel, ⟨by decide, by decide⟩, Nat.le_of_ble_eq_true rfl⟩
theorem KS_X5_ofValley : (parseMethodDescriptor (zyn Y_X5_ofValley).desc).isSome = true := by decide +kernel
theorem KI_X5_ofValley : Cond.instanceMethod (zyn Y_X5_ofValley) ∈ lw_all := q4120
def Y_X5_contractEnds : ZY := (yX5_contractEnds, cX5_contractEnds, 6, none, none, 3)
theorem K_X5_contractEnds : zyc Y_X5_contractEnds 1 := ⟨show zcw Y_X5_contractEnds ∈ lw_all from q4113, q200, by decide +kernel, ⟨by decide, by decide⟩, Nat.le_of_ble_eq_true rfl⟩
theorem KS_X5_contractEnds : (parseMethodDescriptor (zyn Y_X5_contractEnds).desc).isSome = true := by decide +kernel
theorem KI_X5_contractEnds : Cond.instanceMethod (zyn Y_X5_contractEnds) ∈ lw_all := q4112
def Y_X5_hasContract : ZY := (yX5_hasContract, cX5_hasContract, 2, some (.boolean), none, 2)
theorem K_X5_hasContract : zyc Y_X5_hasContract 1 := ⟨show zcw Y_X5_hasContract ∈ lw_all from q4109, q200, by decide +kernel, ⟨by decide, by decide⟩, Nat.le_of_ble_eq_true rfl⟩
theorem KS_X5_hasContract : (parseMethodDescriptor (zyn Y_X5_hasContract).desc).isSome = true := by decide +kernel
theorem KI_X5_hasContract : Cond.instanceMethod (zyn Y_X5_hasContract) ∈ lw_all := q4108
def Y_X5_dismissNow : ZY := (yX5_dismissNow, cX5_dismissNow, 2, some (.boolean), none, 4)
theorem K_X5_dismissNow : zyc Y_X5_dismissNow 1 := ⟨show zcw Y_X5_dismissNow ∈ lw_all from q4218, q200, by decide +kernel, ⟨by decide, by decide⟩, Nat.le_of_ble_eq_true rfl⟩
theorem KS_X5_dismissNow : (parseMethodDescriptor (zyn Y_X5_dismissNow).desc).isSome = true := by decide +kernel
theorem KI_X5_dismissNow : Cond.instanceMethod (zyn Y_X5_dismissNow) ∈ lw_all := q4217
def Y_X5_fundNow : ZY := (yX5_fundNow, cX5_fundNow, 3, some (.boolean), none, 2)
theorem K_X5_fundNow : zyc Y_X5_fundNow 2 := ⟨show zcw Y_X5_fundNow ∈ lw_all from q4226, q200, by decide +kernel, ⟨by decide, by decide⟩, Nat.le_of_ble_eq_true rfl⟩
theorem KS_X5_fundNow : (parseMethodDescriptor (zyn Y_X5_fundNow).desc).isSome = true := by decide +kernel
theorem KI_X5_fundNow : Cond.instanceMethod (zyn Y_X5_fundNow) ∈ lw_all := q4225
def Y_X5_enqueues : ZY := (yX5_enqueues, cX5_enqueues, 2, none, none, 1)
theorem K_X5_enqueues : zyc Y_X5_enqueues 1 := ⟨show zcw Y_X5_enqueues ∈ lw_all from q4133, q200, by decide +kernel, ⟨by decide, by decide⟩, Nat.le_of_ble_eq_true rfl⟩
theorem KS_X5_enqueues : (parseMethodDescriptor (zyn Y_X5_enqueues).desc).isSome = true := by decide +kernel
theorem KI_X5_enqueues : Cond.instanceMethod (zyn Y_X5_enqueues) ∈ lw_all := q4132
def Y_X5_freePosts : ZY := (yX5_freePosts, cX5_freePosts, 2, some (.int), none, 2)
theorem K_X5_freePosts : zyc Y_X5_freePosts 1 := ⟨show zcw Y_X5_freePosts ∈ lw_all from q4170, q200, by decide +kernel, ⟨by decide, by decide⟩, Nat.le_of_ble_eq_true rfl⟩
theorem KS_X5_freePosts : (parseMethodDescriptor (zyn Y_X5_freePosts).desc).isSome = true := by decide +kernel
theorem KI_X5_freePosts : Cond.instanceMethod (zyn Y_X5_freePosts) ∈ lw_all := q4169
def Y_X5_trueScore : ZY := (yX5_trueScore, cX5_trueScore, 3, some (.int), none, 2)
theorem K_X5_trueScore : zyc Y_X5_trueScore 2 := ⟨show zcw Y_X5_trueScore ∈ lw_all from q4157, q200, by decide +kernel, ⟨by decide, by decide⟩, Nat.le_of_ble_eq_true rfl⟩
theorem KS_X5_trueScore : (parseMethodDescriptor (zyn Y_X5_trueScore).desc).isSome = true := by decide +kernel
theorem KI_X5_trueScore : Cond.instanceMethod (zyn Y_X5_trueScore) ∈ lw_all := q4156
def Y_X5_seen : ZY := (yX5_seen, cX5_seen, 3, some (.int), none, 3)
theorem K_X5_seen : zyc Y_X5_seen 2 := ⟨show zcw Y_X5_seen ∈ lw_all from q4153, q200, by decide +kernel, ⟨by decide, by decide⟩, Nat.le_of_ble_eq_true rfl⟩
theorem KS_X5_seen : (parseMethodDescriptor (zyn Y_X5_seen).desc).isSome = true := by decide +kernel
theorem KI_X5_seen : Cond.instanceMethod (zyn Y_X5_seen) ∈ lw_all := q4152
def Y_X5_isBetterEcho : ZY := (yX5_isBetterEcho, cX5_isBetterEcho, 5, some (.boolean), none, 4)
theorem K_X5_isBetterEcho : zyc Y_X5_isBetterEcho 3 := ⟨show zcw Y_X5_isBetterEcho ∈ lw_all from q4178, q200, by decide +kernel, ⟨by decide, by decide⟩, Nat.le_of_ble_eq_true rfl⟩
theorem KS_X5_isBetterEcho : (parseMethodDescriptor (zyn Y_X5_isBetterEcho).desc).isSome = true := by decide +kernel
theorem KI_X5_isBetterEcho : Cond.instanceMethod (zyn Y_X5_isBetterEcho) ∈ lw_all := q4177
def Y_X5_leastKept : ZY := (yX5_leastKept, cX5_leastKept, 4, some (.int), none, 5)
theorem K_X5_leastKept : zyc Y_X5_leastKept 1 := ⟨show zcw Y_X5_leastKept ∈ lw_all from q4174, q200, by decide +kernel, ⟨by decide, by decide⟩, Nat.le_of_ble_eq_true rfl⟩
theorem KS_X5_leastKept : (parseMethodDescriptor (zyn Y_X5_leastKept).desc).isSome = true := by decide +kernel
theorem KI_X5_leastKept : Cond.instanceMethod (zyn Y_X5_leastKept) ∈ lw_all := q4173
def Y_X5_applies : ZY := (yX5_applies, cX5_applies, 5, none, none, 6)
theorem K_X5_applies : zyc Y_X5_applies 2 := ⟨show zcw Y_X5_applies ∈ lw_all from q4166, q200, by decide +kernel, ⟨by decide, by decide⟩, Nat.le_of_ble_eq_true rfl⟩
theorem KS_X5_applies : (parseMethodDescriptor (zyn Y_X5_applies).desc).isSome = true := by decide +kernel
theorem KI_X5_applies : Cond.instanceMethod (zyn Y_X5_applies) ∈ lw_all := q4165
def Y_X5_contractComes : ZY := (yX5_contractComes, cX5_contractComes, 4, none, none, 2)
theorem K_X5_contractComes : zyc Y_X5_contractComes 2 := ⟨show zcw Y_X5_contractComes ∈ lw_all from q4186, q200, by decide +kernel, ⟨by decide, by decide⟩, Nat.le_of_ble_eq_true rfl⟩
theorem KS_X5_contractComes : (parseMethodDescriptor (zyn Y_X5_contractComes).desc).isSome = true := by decide +kernel
theorem KI_X5_contractComes : Cond.instanceMethod (zyn Y_X5_contractComes) ∈ lw_all := q4185
def Y_X5_dequeues : ZY := (yX5_dequeues, cX5_dequeues, 2, some (.int), none, 1)
theorem K_X5_dequeues : zyc Y_X5_dequeues 0 := ⟨show zcw Y_X5_dequeues ∈ lw_all from q4137, q200, by decide +kernel, ⟨by decide, by decide⟩, Nat.le_of_ble_eq_true rfl⟩
theorem KS_X5_dequeues : (parseMethodDescriptor (zyn Y_X5_dequeues).desc).isSome = true := by decide +kernel
theorem KI_X5_dequeues : Cond.instanceMethod (zyn Y_X5_dequeues) ∈ lw_all := q4136
def Y_X5_isKept : ZY := (yX5_isKept, cX5_isKept, 4, some (.boolean), none, 1)
theorem K_X5_isKept : zyc Y_X5_isKept 2 := ⟨show zcw Y_X5_isKept ∈ lw_all from q4182, q200, by decide +kernel, ⟨by decide, by decide⟩, Nat.le_of_ble_eq_true rfl⟩
theorem KS_X5_isKept : (parseMethodDescriptor (zyn Y_X5_isKept).desc).isSome = true := by decide +kernel
theorem KI_X5_isKept : Cond.instanceMethod (zyn Y_X5_isKept) ∈ lw_all := q4181
def Y_X5_reasonOf : ZY := (yX5_reasonOf, cX5_reasonOf, 3, some (.int), none, 4)
theorem K_X5_reasonOf : zyc Y_X5_reasonOf 2 := ⟨show zcw Y_X5_reasonOf ∈ lw_all from q4149, q200, by decide +kernel, ⟨by decide, by decide⟩, Nat.le_of_ble_eq_true rfl⟩
theorem KS_X5_reasonOf : (parseMethodDescriptor (zyn Y_X5_reasonOf).desc).isSome = true := by decide +kernel
theorem KI_X5_reasonOf : Cond.instanceMethod (zyn Y_X5_reasonOf) ∈ lw_all := q4148
def Y_X5_isAcceptable : ZY := (yX5_isAcceptable, cX5_isAcceptable, 3, some (.boolean), none, 5)
theorem K_X5_isAcceptable : zyc Y_X5_isAcceptable 2 := ⟨show zcw Y_X5_isAcceptable ∈ lw_all from q4145, q200, by decide +kernel, ⟨by decide, by decide⟩, Nat.le_of_ble_eq_true rfl⟩
theorem KS_X5_isAcceptable : (parseMethodDescriptor (zyn Y_X5_isAcceptable).desc).isSome = true := by decide +kernel
theorem KI_X5_isAcceptable : Cond.instanceMethod (zyn Y_X5_isAcceptable) ∈ lw_all := q4144
def Y_X5_isBetterValley : ZY := (yX5_isBetterValley, cX5_isBetterValley, 4, some (.boolean), none, 2)
theorem K_X5_isBetterValley : zyc Y_X5_isBetterValley 2 := ⟨show zcw Y_X5_isBetterValley ∈ lw_all from q4162, q200, by decide +kernel, ⟨by decide, by decide⟩, Nat.le_of_ble_eq_true rfl⟩
theorem KS_X5_isBetterValley : (parseMethodDescriptor (zyn Y_X5_isBetterValley).desc).isSome = true := by decide +kernel
theorem KI_X5_isBetterValley : Cond.instanceMethod (zyn Y_X5_isBetterValley) ∈ lw_all := q4161
def Y_X5_nextValley : ZY := (yX5_nextValley, cX5_nextValley, 4, some (.int), none, 6)
theorem K_X5_nextValley : zyc Y_X5_nextValley 1 := ⟨show zcw Y_X5_nextValley ∈ lw_all from q4141, q200, by decide +kernel, ⟨by decide, by decide⟩, Nat.le_of_ble_eq_true rfl⟩
theorem KS_X5_nextValley : (parseMethodDescriptor (zyn Y_X5_nextValley).desc).isSome = true := by decide +kernel
theorem KI_X5_nextValley : Cond.instanceMethod (zyn Y_X5_nextValley) ∈ lw_all := q4140
def Y_X5_startsFair : ZY := (yX5_startsFair, cX5_startsFair, 2, none, none, 3)
theorem K_X5_startsFair : zyc Y_X5_startsFair 0 := ⟨show zcw Y_X5_startsFair ∈ lw_all from q4129, q200, by decide +kernel, ⟨by decide, by decide⟩, Nat.le_of_ble_eq_true rfl⟩
theorem KS_X5_startsFair : (parseMethodDescriptor (zyn Y_X5_startsFair).desc).isSome = true := by decide +kernel
theorem KI_X5_startsFair : Cond.instanceMethod (zyn Y_X5_startsFair) ∈ lw_all := q4128
def Y_X5_fairNow : ZY := (yX5_fairNow, cX5_fairNow, 3, none, none, 7)
theorem K_X5_fairNow : zyc Y_X5_fairNow 0 := ⟨show zcw Y_X5_fairNow ∈ lw_all from q4125, q200, by decide +kernel, ⟨by decide, by decide⟩, Nat.le_of_ble_eq_true rfl⟩
theorem KS_X5_fairNow : (parseMethodDescriptor (zyn Y_X5_fairNow).desc).isSome = true := by decide +kernel
theorem KI_X5_fairNow : Cond.instanceMethod (zyn Y_X5_fairNow) ∈ lw_all := q4124
def Y_X5_holdNow : ZY := (yX5_holdNow, cX5_holdNow, 2, some (.boolean), none, 8)
theorem K_X5_holdNow : zyc Y_X5_holdNow 0 := ⟨show zcw Y_X5_holdNow ∈ lw_all from q4206, q200, by decide +kernel, ⟨by decide, by decide⟩, Nat.le_of_ble_eq_true rfl⟩
theorem KS_X5_holdNow : (parseMethodDescriptor (zyn Y_X5_holdNow).desc).isSome = true := by decide +kernel
theorem KI_X5_holdNow : Cond.instanceMethod (zyn Y_X5_holdNow) ∈ lw_all := q4205
def Y_X5_allLeft : ZY := (yX5_allLeft, cX5_allLeft, 3, some (.int), none, 2)
theorem K_X5_allLeft : zyc Y_X5_allLeft 0 := ⟨show zcw Y_X5_allLeft ∈ lw_all from q4089, q200, by decide +kernel, ⟨by decide, by decide⟩, Nat.le_of_ble_eq_true rfl⟩
theorem KS_X5_allLeft : (parseMethodDescriptor (zyn Y_X5_allLeft).desc).isSome = true := by decide +kernel
theorem KI_X5_allLeft : Cond.instanceMethod (zyn Y_X5_allLeft) ∈ lw_all := q4088
def Y_X5_beginsSeason : ZY := (yX5_beginsSeason, cX5_beginsSeason, 3, none, none, 8)
theorem K_X5_beginsSeason : zyc Y_X5_beginsSeason 0 := ⟨show zcw Y_X5_beginsSeason ∈ lw_all from q4105, q200, by decide +kernel, ⟨by decide, by decide⟩, Nat.le_of_ble_eq_true rfl⟩
theorem KS_X5_beginsSeason : (parseMethodDescriptor (zyn Y_X5_beginsSeason).desc).isSome = true := by decide +kernel
theorem KI_X5_beginsSeason : Cond.instanceMethod (zyn Y_X5_beginsSeason) ∈ lw_all := q4104
def Y_X5_earns : ZY := (yX5_earns, cX5_earns, 5, none, none, 2)
theorem K_X5_earns : zyc Y_X5_earns 1 := ⟨show zcw Y_X5_earns ∈ lw_all from q4190, q200, by decide +kernel, ⟨by decide, by decide⟩, Nat.le_of_ble_eq_true rfl⟩
theorem KS_X5_earns : (parseMethodDescriptor (zyn Y_X5_earns).desc).isSome = true := by decide +kernel
theorem KI_X5_earns : Cond.instanceMethod (zyn Y_X5_earns) ∈ lw_all := q4189
def Y_X5_fogNow : ZY := (yX5_fogNow, cX5_fogNow, 2, some (.int), none, 1)
theorem K_X5_fogNow : zyc Y_X5_fogNow 1 := ⟨show zcw Y_X5_fogNow ∈ lw_all from q4202, q200, by decide +kernel, ⟨by decide, by decide⟩, Nat.le_of_ble_eq_true rfl⟩
theorem KS_X5_fogNow : (parseMethodDescriptor (zyn Y_X5_fogNow).desc).isSome = true := by decide +kernel
theorem KI_X5_fogNow : Cond.instanceMethod (zyn Y_X5_fogNow) ∈ lw_all := q4201
def Y_X5_mayDesert : ZY := (yX5_mayDesert, cX5_mayDesert, 3, none, none, 4)
theorem K_X5_mayDesert : zyc Y_X5_mayDesert 1 := ⟨show zcw Y_X5_mayDesert ∈ lw_all from q4198, q200, by decide +kernel, ⟨by decide, by decide⟩, Nat.le_of_ble_eq_true rfl⟩
theorem KS_X5_mayDesert : (parseMethodDescriptor (zyn Y_X5_mayDesert).desc).isSome = true := by decide +kernel
theorem KI_X5_mayDesert : Cond.instanceMethod (zyn Y_X5_mayDesert) ∈ lw_all := q4197
def Y_X5_pays : ZY := (yX5_pays, cX5_pays, 4, none, none, 2)
theorem K_X5_pays : zyc Y_X5_pays 2 := ⟨show zcw Y_X5_pays ∈ lw_all from q4194, q200, by decide +kernel, ⟨by decide, by decide⟩, Nat.le_of_ble_eq_true rfl⟩
theorem KS_X5_pays : (parseMethodDescriptor (zyn Y_X5_pays).desc).isSome = true := by decide +kernel
theorem KI_X5_pays : Cond.instanceMethod (zyn Y_X5_pays) ∈ lw_all := q4193
def Y_X5_dayOnce : ZY := (yX5_dayOnce, cX5_dayOnce, 3, none, none, 9)
theorem K_X5_dayOnce : zyc Y_X5_dayOnce 0 := ⟨show zcw Y_X5_dayOnce ∈ lw_all from q4101, q200, by decide +kernel, ⟨by decide, by decide⟩, Nat.le_of_ble_eq_true rfl⟩
theorem KS_X5_dayOnce : (parseMethodDescriptor (zyn Y_X5_dayOnce).desc).isSome = true := by decide +kernel
theorem KI_X5_dayOnce : Cond.instanceMethod (zyn Y_X5_dayOnce) ∈ lw_all := q4100
def Y_X5_goBy : ZY := (yX5_goBy, cX5_goBy, 3, none, none, 10)
theorem K_X5_goBy : zyc Y_X5_goBy 1 := ⟨show zcw Y_X5_goBy ∈ lw_all from q4097, q200, by decide +kernel, ⟨by decide, by decide⟩, Nat.le_of_ble_eq_true rfl⟩
theorem KS_X5_goBy : (parseMethodDescriptor (zyn Y_X5_goBy).desc).isSome = true := by decide +kernel
theorem KI_X5_goBy : Cond.instanceMethod (zyn Y_X5_goBy) ∈ lw_all := q4096
def Y_X5_passNow : ZY := (yX5_passNow, cX5_passNow, 3, some (.boolean), none, 11)
theorem K_X5_passNow : zyc Y_X5_passNow 1 := ⟨show zcw Y_X5_passNow ∈ lw_all from q4085, q200, by decide +kernel, ⟨by decide, by decide⟩, Nat.le_of_ble_eq_true rfl⟩
theorem KS_X5_passNow : (parseMethodDescriptor (zyn Y_X5_passNow).desc).isSome = true := by decide +kernel
theorem KI_X5_passNow : Cond.instanceMethod (zyn Y_X5_passNow) ∈ lw_all := q4084
def Y_X5_canTest : ZY := (yX5_canTest, cX5_canTest, 3, some (.boolean), none, 3)
theorem K_X5_canTest : zyc Y_X5_canTest 2 := ⟨show zcw Y_X5_canTest ∈ lw_all from q4214, q200, by decide +kernel, ⟨by decide, by decide⟩, Nat.le_of_ble_eq_true rfl⟩
theorem KS_X5_canTest : (parseMethodDescriptor (zyn Y_X5_canTest).desc).isSome = true := by decide +kernel
theorem KI_X5_canTest : Cond.instanceMethod (zyn Y_X5_canTest) ∈ lw_all := q4213
def Y_X5_testNow : ZY := (yX5_testNow, cX5_testNow, 3, some (.boolean), none, 4)
theorem K_X5_testNow : zyc Y_X5_testNow 2 := ⟨show zcw Y_X5_testNow ∈ lw_all from q4210, q200, by decide +kernel, ⟨by decide, by decide⟩, Nat.le_of_ble_eq_true rfl⟩
theorem KS_X5_testNow : (parseMethodDescriptor (zyn Y_X5_testNow).desc).isSome = true := by decide +kernel
theorem KI_X5_testNow : Cond.instanceMethod (zyn Y_X5_testNow) ∈ lw_all := q4209
def Y_X5_canTrain : ZY := (yX5_canTrain, cX5_canTrain, 2, some (.boolean), none, 2)
theorem K_X5_canTrain : zyc Y_X5_canTrain 1 := ⟨show zcw Y_X5_canTrain ∈ lw_all from q4234, q200, by decide +kernel, ⟨by decide, by decide⟩, Nat.le_of_ble_eq_true rfl⟩
theorem KS_X5_canTrain : (parseMethodDescriptor (zyn Y_X5_canTrain).desc).isSome = true := by decide +kernel
theorem KI_X5_canTrain : Cond.instanceMethod (zyn Y_X5_canTrain) ∈ lw_all := q4233
def Y_X5_trainNow : ZY := (yX5_trainNow, cX5_trainNow, 3, some (.boolean), none, 3)
theorem K_X5_trainNow : zyc Y_X5_trainNow 1 := ⟨show zcw Y_X5_trainNow ∈ lw_all from q4230, q200, by decide +kernel, ⟨by decide, by decide⟩, Nat.le_of_ble_eq_true rfl⟩
theorem KS_X5_trainNow : (parseMethodDescriptor (zyn Y_X5_trainNow).desc).isSome = true := by decide +kernel
theorem KI_X5_trainNow : Cond.instanceMethod (zyn Y_X5_trainNow) ∈ lw_all := q4229
def Y_X5_wageNow : ZY := (yX5_wageNow, cX5_wageNow, 3, some (.boolean), none, 2)
theorem K_X5_wageNow : zyc Y_X5_wageNow 2 := ⟨show zcw Y_X5_wageNow ∈ lw_all from q4222, q200, by decide +kernel, ⟨by decide, by decide⟩, Nat.le_of_ble_eq_true rfl⟩
theorem KS_X5_wageNow : (parseMethodDescriptor (zyn Y_X5_wageNow).desc).isSome = true := by decide +kernel
theorem KI_X5_wageNow : Cond.instanceMethod (zyn Y_X5_wageNow) ∈ lw_all := q4221
def Y_X5_doesOne : ZY := (yX5_doesOne, cX5_doesOne, 4, some (.boolean), none, 12)
theorem K_X5_doesOne : zyc Y_X5_doesOne 1 := ⟨show zcw Y_X5_doesOne ∈ lw_all from q4081, q200, by decide +kernel, ⟨by decide, by decide⟩, Nat.le_of_ble_eq_true rfl⟩
theorem KS_X5_doesOne : (parseMethodDescriptor (zyn Y_X5_doesOne).desc).isSome = true := by decide +kernel
theorem KI_X5_doesOne : Cond.instanceMethod (zyn Y_X5_doesOne) ∈ lw_all := q4080
def Y_X5_keeps : ZY := (yX5_keeps, cX5_keeps, 3, none, none, 2)
theorem K_X5_keeps : zyc Y_X5_keeps 1 := ⟨show zcw Y_X5_keeps ∈ lw_all from q4077, q200, by decide +kernel, ⟨by decide, by decide⟩, Nat.le_of_ble_eq_true rfl⟩
theorem KS_X5_keeps : (parseMethodDescriptor (zyn Y_X5_keeps).desc).isSome = true := by decide +kernel
theorem KI_X5_keeps : Cond.instanceMethod (zyn Y_X5_keeps) ∈ lw_all := q4076
def Y_X5_otherCommand : ZY := (yX5_otherCommand, cX5_otherCommand, 1, some (.int), none, 6)
theorem K_X5_otherCommand : zyc Y_X5_otherCommand 0 := ⟨show zcw Y_X5_otherCommand ∈ lw_all from q4065, q200, by decide +kernel, ⟨by decide, by decide⟩, Nat.le_of_ble_eq_true rfl⟩
theorem KS_X5_otherCommand : (parseMethodDescriptor (zyn Y_X5_otherCommand).desc).isSome = true := by decide +kernel
theorem KI_X5_otherCommand : Cond.instanceMethod (zyn Y_X5_otherCommand) ∈ lw_all := q4064
def Y_X5_commandHere : ZY := (yX5_commandHere, cX5_commandHere, 1, some (.int), none, 7)
theorem K_X5_commandHere : zyc Y_X5_commandHere 0 := ⟨show zcw Y_X5_commandHere ∈ lw_all from q4059, q200, by decide +kernel, ⟨by decide, by decide⟩, Nat.le_of_ble_eq_true rfl⟩
theorem KS_X5_commandHere : (parseMethodDescriptor (zyn Y_X5_commandHere).desc).isSome = true := by decide +kernel
theorem KI_X5_commandHere : Cond.instanceMethod (zyn Y_X5_commandHere) ∈ lw_all := q4058
def Y_X5_partsOf : ZY := (yX5_partsOf, cX5_partsOf, 3, none, none, 5)
theorem K_X5_partsOf : zyc Y_X5_partsOf 2 := ⟨show zcw Y_X5_partsOf ∈ lw_all from q4073, q200, by decide +kernel, ⟨by decide, by decide⟩, Nat.le_of_ble_eq_true rfl⟩
theorem KS_X5_partsOf : (parseMethodDescriptor (zyn Y_X5_partsOf).desc).isSome = true := by decide +kernel
theorem KI_X5_partsOf : Cond.instanceMethod (zyn Y_X5_partsOf) ∈ lw_all := q4072
def Y_X5_readsOne : ZY := (yX5_readsOne, cX5_readsOne, 2, none, none, 8)
theorem K_X5_readsOne : zyc Y_X5_readsOne 0 := ⟨show zcw Y_X5_readsOne ∈ lw_all from q4055, q200, by decide +kernel, ⟨by decide, by decide⟩, Nat.le_of_ble_eq_true rfl⟩
theorem KS_X5_readsOne : (parseMethodDescriptor (zyn Y_X5_readsOne).desc).isSome = true := by decide +kernel
theorem KI_X5_readsOne : Cond.instanceMethod (zyn Y_X5_readsOne) ∈ lw_all := q4054
def Y_X5_executeCommands : ZY := (yX5_executeCommands, cX5_executeCommands, 2, some (.int), none, 13)
theorem K_X5_executeCommands : zyc Y_X5_executeCommands 0 := ⟨show zcw Y_X5_executeCommands ∈ lw_all from q4051, q200, by decide +kernel, ⟨by decide, by decide⟩, Nat.le_of_ble_eq_true rfl⟩
theorem KS_X5_executeCommands : (parseMethodDescriptor (zyn Y_X5_executeCommands).desc).isSome = true := by decide +kernel
theorem KI_X5_executeCommands : Cond.instanceMethod (zyn Y_X5_executeCommands) ∈ lw_all := q4049
def Y_X5_tells : ZY := (yX5_tells, cX5_tells, 2, some (.int), none, 1)
theorem K_X5_tells : zyc Y_X5_tells 1 := ⟨show zcw Y_X5_tells ∈ lw_all from q4242, q200, by decide +kernel, ⟨by decide, by decide⟩, Nat.le_of_ble_eq_true rfl⟩
theorem KS_X5_tells : (parseMethodDescriptor (zyn Y_X5_tells).desc).isSome = true := by decide +kernel
theorem KI_X5_tells : Cond.instanceMethod (zyn Y_X5_tells) ∈ lw_all := q4241
def Y_X5_echoCount : ZY := (yX5_echoCount, cX5_echoCount, 1, some (.int), none, 2)
theorem K_X5_echoCount : zyc Y_X5_echoCount 0 := ⟨show zcw Y_X5_echoCount ∈ lw_all from q4238, q200, by decide +kernel, ⟨by decide, by decide⟩, Nat.le_of_ble_eq_true rfl⟩
theorem KS_X5_echoCount : (parseMethodDescriptor (zyn Y_X5_echoCount).desc).isSome = true := by decide +kernel
theorem KI_X5_echoCount : Cond.instanceMethod (zyn Y_X5_echoCount) ∈ lw_all := q4236
def Y_X5_valleyCount : ZY := (yX5_valleyCount, cX5_valleyCount, 1, some (.int), none, 2)
theorem K_X5_valleyCount : zyc Y_X5_valleyCount 0 := ⟨show zcw Y_X5_valleyCount ∈ lw_all from q4246, q200, by decide +kernel, ⟨by decide, by decide⟩, Nat.le_of_ble_eq_true rfl⟩
theorem KS_X5_valleyCount : (parseMethodDescriptor (zyn Y_X5_valleyCount).desc).isSome = true := by decide +kernel
theorem KI_X5_valleyCount : Cond.instanceMethod (zyn Y_X5_valleyCount) ∈ lw_all := q4244
def Y_X5_day : ZY := (yX5_day, cX5_day, 1, some (.int), none, 2)
theorem K_X5_day : zyc Y_X5_day 0 := ⟨show zcw Y_X5_day ∈ lw_all from q4250, q200, by decide +kernel, ⟨by decide, by decide⟩, Nat.le_of_ble_eq_true rfl⟩
theorem KS_X5_day : (parseMethodDescriptor (zyn Y_X5_day).desc).isSome = true := by decide +kernel
theorem KI_X5_day : Cond.instanceMethod (zyn Y_X5_day) ∈ lw_all := q4248
def Y_X5_seasonLength : ZY := (yX5_seasonLength, cX5_seasonLength, 1, some (.int), none, 2)
theorem K_X5_seasonLength : zyc Y_X5_seasonLength 0 := ⟨show zcw Y_X5_seasonLength ∈ lw_all from q4254, q200, by decide +kernel, ⟨by decide, by decide⟩, Nat.le_of_ble_eq_true rfl⟩
theorem KS_X5_seasonLength : (parseMethodDescriptor (zyn Y_X5_seasonLength).desc).isSome = true := by decide +kernel
theorem KI_X5_seasonLength : Cond.instanceMethod (zyn Y_X5_seasonLength) ∈ lw_all := q4252
def Y_X5_fogOf : ZY := (yX5_fogOf, cX5_fogOf, 2, some (.int), none, 2)
theorem K_X5_fogOf : zyc Y_X5_fogOf 1 := ⟨show zcw Y_X5_fogOf ∈ lw_all from q4258, q200, by decide +kernel, ⟨by decide, by decide⟩, Nat.le_of_ble_eq_true rfl⟩
theorem KS_X5_fogOf : (parseMethodDescriptor (zyn Y_X5_fogOf).desc).isSome = true := by decide +kernel
theorem KI_X5_fogOf : Cond.instanceMethod (zyn Y_X5_fogOf) ∈ lw_all := q4256
def Y_X5_finds : ZY := (yX5_finds, cX5_finds, 3, some (.int), none, 4)
theorem K_X5_finds : zyc Y_X5_finds 1 := ⟨show zcw Y_X5_finds ∈ lw_all from q4267, q200, by decide +kernel, ⟨by decide, by decide⟩, Nat.le_of_ble_eq_true rfl⟩
theorem KS_X5_finds : (parseMethodDescriptor (zyn Y_X5_finds).desc).isSome = true := by decide +kernel
theorem KI_X5_finds : Cond.instanceMethod (zyn Y_X5_finds) ∈ lw_all := q4266
def Y_X5_findEcho : ZY := (yX5_findEcho, cX5_findEcho, 1, some (.int), none, 5)
theorem K_X5_findEcho : zyc Y_X5_findEcho 0 := ⟨show zcw Y_X5_findEcho ∈ lw_all from q4263, q200, by decide +kernel, ⟨by decide, by decide⟩, Nat.le_of_ble_eq_true rfl⟩
theorem KS_X5_findEcho : (parseMethodDescriptor (zyn Y_X5_findEcho).desc).isSome = true := by decide +kernel
theorem KI_X5_findEcho : Cond.instanceMethod (zyn Y_X5_findEcho) ∈ lw_all := q4261
def Y_X5_findValley : ZY := (yX5_findValley, cX5_findValley, 1, some (.int), none, 5)
theorem K_X5_findValley : zyc Y_X5_findValley 0 := ⟨show zcw Y_X5_findValley ∈ lw_all from q4271, q200, by decide +kernel, ⟨by decide, by decide⟩, Nat.le_of_ble_eq_true rfl⟩
theorem KS_X5_findValley : (parseMethodDescriptor (zyn Y_X5_findValley).desc).isSome = true := by decide +kernel
theorem KI_X5_findValley : Cond.instanceMethod (zyn Y_X5_findValley) ∈ lw_all := q4269
def Y_X5_isEcho : ZY := (yX5_isEcho, cX5_isEcho, 2, some (.boolean), none, 2)
theorem K_X5_isEcho : zyc Y_X5_isEcho 1 := ⟨show zcw Y_X5_isEcho ∈ lw_all from q4283, q200, by decide +kernel, ⟨by decide, by decide⟩, Nat.le_of_ble_eq_true rfl⟩
theorem KS_X5_isEcho : (parseMethodDescriptor (zyn Y_X5_isEcho).desc).isSome = true := by decide +kernel
theorem KI_X5_isEcho : Cond.instanceMethod (zyn Y_X5_isEcho) ∈ lw_all := q4282
def Y_X5_tellsEcho : ZY := (yX5_tellsEcho, cX5_tellsEcho, 3, some (.int), none, 3)
theorem K_X5_tellsEcho : zyc Y_X5_tellsEcho 2 := ⟨show zcw Y_X5_tellsEcho ∈ lw_all from q4279, q200, by decide +kernel, ⟨by decide, by decide⟩, Nat.le_of_ble_eq_true rfl⟩
theorem KS_X5_tellsEcho : (parseMethodDescriptor (zyn Y_X5_tellsEcho).desc).isSome = true := by decide +kernel
theorem KI_X5_tellsEcho : Cond.instanceMethod (zyn Y_X5_tellsEcho) ∈ lw_all := q4278
def Y_X5_delayOf : ZY := (yX5_delayOf, cX5_delayOf, 2, some (.int), none, 4)
theorem K_X5_delayOf : zyc Y_X5_delayOf 1 := ⟨show zcw Y_X5_delayOf ∈ lw_all from q4275, q200, by decide +kernel, ⟨by decide, by decide⟩, Nat.le_of_ble_eq_true rfl⟩
theorem KS_X5_delayOf : (parseMethodDescriptor (zyn Y_X5_delayOf).desc).isSome = true := by decide +kernel
theorem KI_X5_delayOf : Cond.instanceMethod (zyn Y_X5_delayOf) ∈ lw_all := q4273
def Y_X5_repeatsOf : ZY := (yX5_repeatsOf, cX5_repeatsOf, 2, some (.int), none, 4)
theorem K_X5_repeatsOf : zyc Y_X5_repeatsOf 1 := ⟨show zcw Y_X5_repeatsOf ∈ lw_all from q4287, q200, by decide +kernel, ⟨by decide, by decide⟩, Nat.le_of_ble_eq_true rfl⟩
theorem KS_X5_repeatsOf : (parseMethodDescriptor (zyn Y_X5_repeatsOf).desc).isSome = true := by decide +kernel
theorem KI_X5_repeatsOf : Cond.instanceMethod (zyn Y_X5_repeatsOf) ∈ lw_all := q4285
def Y_X5_reserveWage : ZY := (yX5_reserveWage, cX5_reserveWage, 2, some (.int), none, 4)
theorem K_X5_reserveWage : zyc Y_X5_reserveWage 1 := ⟨show zcw Y_X5_reserveWage ∈ lw_all from q4291, q200, by decide +kernel, ⟨by decide, by decide⟩, Nat.le_of_ble_eq_true rfl⟩
theorem KS_X5_reserveWage : (parseMethodDescriptor (zyn Y_X5_reserveWage).desc).isSome = true := by decide +kernel
theorem KI_X5_reserveWage : Cond.instanceMethod (zyn Y_X5_reserveWage) ∈ lw_all := q4289
def Y_X5_resistanceOf : ZY := (yX5_resistanceOf, cX5_resistanceOf, 2, some (.int), none, 4)
theorem K_X5_resistanceOf : zyc Y_X5_resistanceOf 1 := ⟨show zcw Y_X5_resistanceOf ∈ lw_all from q4295, q200, by decide +kernel, ⟨by decide, by decide⟩, Nat.le_of_ble_eq_true rfl⟩
theorem KS_X5_resistanceOf : (parseMethodDescriptor (zyn Y_X5_resistanceOf).desc).isSome = true := by decide +kernel
theorem KI_X5_resistanceOf : Cond.instanceMethod (zyn Y_X5_resistanceOf) ∈ lw_all := q4293
def Y_X5_savingsOf : ZY := (yX5_savingsOf, cX5_savingsOf, 2, some (.int), none, 4)
theorem K_X5_savingsOf : zyc Y_X5_savingsOf 1 := ⟨show zcw Y_X5_savingsOf ∈ lw_all from q4299, q200, by decide +kernel, ⟨by decide, by decide⟩, Nat.le_of_ble_eq_true rfl⟩
theorem KS_X5_savingsOf : (parseMethodDescriptor (zyn Y_X5_savingsOf).desc).isSome = true := by decide +kernel
theorem KI_X5_savingsOf : Cond.instanceMethod (zyn Y_X5_savingsOf) ∈ lw_all := q4297
def Y_X5_unpaidDays : ZY := (yX5_unpaidDays, cX5_unpaidDays, 2, some (.int), none, 4)
theorem K_X5_unpaidDays : zyc Y_X5_unpaidDays 1 := ⟨show zcw Y_X5_unpaidDays ∈ lw_all from q4303, q200, by decide +kernel, ⟨by decide, by decide⟩, Nat.le_of_ble_eq_true rfl⟩
theorem KS_X5_unpaidDays : (parseMethodDescriptor (zyn Y_X5_unpaidDays).desc).isSome = true := by decide +kernel
theorem KI_X5_unpaidDays : Cond.instanceMethod (zyn Y_X5_unpaidDays) ∈ lw_all := q4301
def Y_X5_employerOf : ZY := (yX5_employerOf, cX5_employerOf, 2, some (.int), none, 3)
theorem K_X5_employerOf : zyc Y_X5_employerOf 1 := ⟨show zcw Y_X5_employerOf ∈ lw_all from q4307, q200, by decide +kernel, ⟨by decide, by decide⟩, Nat.le_of_ble_eq_true rfl⟩
theorem KS_X5_employerOf : (parseMethodDescriptor (zyn Y_X5_employerOf).desc).isSome = true := by decide +kernel
theorem KI_X5_employerOf : Cond.instanceMethod (zyn Y_X5_employerOf) ∈ lw_all := q4305
def Y_X5_isValley : ZY := (yX5_isValley, cX5_isValley, 2, some (.boolean), none, 2)
theorem K_X5_isValley : zyc Y_X5_isValley 1 := ⟨show zcw Y_X5_isValley ∈ lw_all from q4319, q200, by decide +kernel, ⟨by decide, by decide⟩, Nat.le_of_ble_eq_true rfl⟩
theorem KS_X5_isValley : (parseMethodDescriptor (zyn Y_X5_isValley).desc).isSome = true := by decide +kernel
theorem KI_X5_isValley : Cond.instanceMethod (zyn Y_X5_isValley) ∈ lw_all := q4318
def Y_X5_tellsValley : ZY := (yX5_tellsValley, cX5_tellsValley, 3, some (.int), none, 3)
theorem K_X5_tellsValley : zyc Y_X5_tellsValley 2 := ⟨show zcw Y_X5_tellsValley ∈ lw_all from q4315, q200, by decide +kernel, ⟨by decide, by decide⟩, Nat.le_of_ble_eq_true rfl⟩
theorem KS_X5_tellsValley : (parseMethodDescriptor (zyn Y_X5_tellsValley).desc).isSome = true := by decide +kernel
theorem KI_X5_tellsValley : Cond.instanceMethod (zyn Y_X5_tellsValley) ∈ lw_all := q4314
def Y_X5_widthOf : ZY := (yX5_widthOf, cX5_widthOf, 2, some (.int), none, 4)
theorem K_X5_widthOf : zyc Y_X5_widthOf 1 := ⟨show zcw Y_X5_widthOf ∈ lw_all from q4311, q200, by decide +kernel, ⟨by decide, by decide⟩, Nat.le_of_ble_eq_true rfl⟩
theorem KS_X5_widthOf : (parseMethodDescriptor (zyn Y_X5_widthOf).desc).isSome = true := by decide +kernel
theorem KI_X5_widthOf : Cond.instanceMethod (zyn Y_X5_widthOf) ∈ lw_all := q4309
def Y_X5_postsOf : ZY := (yX5_postsOf, cX5_postsOf, 2, some (.int), none, 4)
theorem K_X5_postsOf : zyc Y_X5_postsOf 1 := ⟨show zcw Y_X5_postsOf ∈ lw_all from q4323, q200, by decide +kernel, ⟨by decide, by decide⟩, Nat.le_of_ble_eq_true rfl⟩
theorem KS_X5_postsOf : (parseMethodDescriptor (zyn Y_X5_postsOf).desc).isSome = true := by decide +kernel
theorem KI_X5_postsOf : Cond.instanceMethod (zyn Y_X5_postsOf) ∈ lw_all := q4321
def Y_X5_wageOf : ZY := (yX5_wageOf, cX5_wageOf, 2, some (.int), none, 4)
theorem K_X5_wageOf : zyc Y_X5_wageOf 1 := ⟨show zcw Y_X5_wageOf ∈ lw_all from q4327, q200, by decide +kernel, ⟨by decide, by decide⟩, Nat.le_of_ble_eq_true rfl⟩
theorem KS_X5_wageOf : (parseMethodDescriptor (zyn Y_X5_wageOf).desc).isSome = true := by decide +kernel
theorem KI_X5_wageOf : Cond.instanceMethod (zyn Y_X5_wageOf) ∈ lw_all := q4325
def Y_X5_purseOf : ZY := (yX5_purseOf, cX5_purseOf, 2, some (.int), none, 4)
theorem K_X5_purseOf : zyc Y_X5_purseOf 1 := ⟨show zcw Y_X5_purseOf ∈ lw_all from q4331, q200, by decide +kernel, ⟨by decide, by decide⟩, Nat.le_of_ble_eq_true rfl⟩
theorem KS_X5_purseOf : (parseMethodDescriptor (zyn Y_X5_purseOf).desc).isSome = true := by decide +kernel
theorem KI_X5_purseOf : Cond.instanceMethod (zyn Y_X5_purseOf) ∈ lw_all := q4329
def Y_X5_staffCount : ZY := (yX5_staffCount, cX5_staffCount, 2, some (.int), none, 4)
theorem K_X5_staffCount : zyc Y_X5_staffCount 1 := ⟨show zcw Y_X5_staffCount ∈ lw_all from q4335, q200, by decide +kernel, ⟨by decide, by decide⟩, Nat.le_of_ble_eq_true rfl⟩
theorem KS_X5_staffCount : (parseMethodDescriptor (zyn Y_X5_staffCount).desc).isSome = true := by decide +kernel
theorem KI_X5_staffCount : Cond.instanceMethod (zyn Y_X5_staffCount) ∈ lw_all := q4333
def Y_X5_staffMember : ZY := (yX5_staffMember, cX5_staffMember, 3, some (.int), none, 3)
theorem K_X5_staffMember : zyc Y_X5_staffMember 2 := ⟨show zcw Y_X5_staffMember ∈ lw_all from q4339, q200, by decide +kernel, ⟨by decide, by decide⟩, Nat.le_of_ble_eq_true rfl⟩
theorem KS_X5_staffMember : (parseMethodDescriptor (zyn Y_X5_staffMember).desc).isSome = true := by decide +kernel
theorem KI_X5_staffMember : Cond.instanceMethod (zyn Y_X5_staffMember) ∈ lw_all := q4337
def Y_X5_areBoth : ZY := (yX5_areBoth, cX5_areBoth, 3, some (.boolean), none, 3)
theorem K_X5_areBoth : zyc Y_X5_areBoth 2 := ⟨show zcw Y_X5_areBoth ∈ lw_all from q4347, q200, by decide +kernel, ⟨by decide, by decide⟩, Nat.le_of_ble_eq_true rfl⟩
theorem KS_X5_areBoth : (parseMethodDescriptor (zyn Y_X5_areBoth).desc).isSome = true := by decide +kernel
theorem KI_X5_areBoth : Cond.instanceMethod (zyn Y_X5_areBoth) ∈ lw_all := q4346
def Y_X5_isTested : ZY := (yX5_isTested, cX5_isTested, 3, some (.boolean), none, 4)
theorem K_X5_isTested : zyc Y_X5_isTested 2 := ⟨show zcw Y_X5_isTested ∈ lw_all from q4343, q200, by decide +kernel, ⟨by decide, by decide⟩, Nat.le_of_ble_eq_true rfl⟩
theorem KS_X5_isTested : (parseMethodDescriptor (zyn Y_X5_isTested).desc).isSome = true := by decide +kernel
theorem KI_X5_isTested : Cond.instanceMethod (zyn Y_X5_isTested) ∈ lw_all := q4341
def Y_X5_seenScore : ZY := (yX5_seenScore, cX5_seenScore, 3, some (.int), none, 4)
theorem K_X5_seenScore : zyc Y_X5_seenScore 2 := ⟨show zcw Y_X5_seenScore ∈ lw_all from q4351, q200, by decide +kernel, ⟨by decide, by decide⟩, Nat.le_of_ble_eq_true rfl⟩
theorem KS_X5_seenScore : (parseMethodDescriptor (zyn Y_X5_seenScore).desc).isSome = true := by decide +kernel
theorem KI_X5_seenScore : Cond.instanceMethod (zyn Y_X5_seenScore) ∈ lw_all := q4349
def Y_X5_pairReason : ZY := (yX5_pairReason, cX5_pairReason, 3, some (.int), none, 5)
theorem K_X5_pairReason : zyc Y_X5_pairReason 2 := ⟨show zcw Y_X5_pairReason ∈ lw_all from q4355, q200, by decide +kernel, ⟨by decide, by decide⟩, Nat.le_of_ble_eq_true rfl⟩
theorem KS_X5_pairReason : (parseMethodDescriptor (zyn Y_X5_pairReason).desc).isSome = true := by decide +kernel
theorem KI_X5_pairReason : Cond.instanceMethod (zyn Y_X5_pairReason) ∈ lw_all := q4353
def Y_X5_truth : ZY := (yX5_truth, cX5_truth, 1, some (.int), none, 1)
theorem K_X5_truth : zyc Y_X5_truth 1 := ⟨show zcw Y_X5_truth ∈ lw_all from q4366, q200, by decide +kernel, ⟨by decide, by decide⟩, Nat.le_of_ble_eq_true rfl⟩
theorem KS_X5_truth : (parseMethodDescriptor (zyn Y_X5_truth).desc).isSome = true := by decide +kernel
theorem KT_X5_truth : Cond.static (zyn Y_X5_truth) ∈ lw_all := q4365
def Y_X5_valleyAt : ZY := (yX5_valleyAt, cX5_valleyAt, 6, some (.int), none, 6)
theorem K_X5_valleyAt : zyc Y_X5_valleyAt 2 := ⟨show zcw Y_X5_valleyAt ∈ lw_all from q4363, q200, by decide +kernel, ⟨by decide, by decide⟩, Nat.le_of_ble_eq_true rfl⟩
theorem KS_X5_valleyAt : (parseMethodDescriptor (zyn Y_X5_valleyAt).desc).isSome = true := by decide +kernel
theorem KI_X5_valleyAt : Cond.instanceMethod (zyn Y_X5_valleyAt) ∈ lw_all := q4362
def Y_X5_preferredValley : ZY := (yX5_preferredValley, cX5_preferredValley, 3, some (.int), none, 7)
theorem K_X5_preferredValley : zyc Y_X5_preferredValley 2 := ⟨show zcw Y_X5_preferredValley ∈ lw_all from q4359, q200, by decide +kernel, ⟨by decide, by decide⟩, Nat.le_of_ble_eq_true rfl⟩
theorem KS_X5_preferredValley : (parseMethodDescriptor (zyn Y_X5_preferredValley).desc).isSome = true := by decide +kernel
theorem KI_X5_preferredValley : Cond.instanceMethod (zyn Y_X5_preferredValley) ∈ lw_all := q4357
def Y_X5_echoAt : ZY := (yX5_echoAt, cX5_echoAt, 6, some (.int), none, 6)
theorem K_X5_echoAt : zyc Y_X5_echoAt 2 := ⟨show zcw Y_X5_echoAt ∈ lw_all from q4374, q200, by decide +kernel, ⟨by decide, by decide⟩, Nat.le_of_ble_eq_true rfl⟩
theorem KS_X5_echoAt : (parseMethodDescriptor (zyn Y_X5_echoAt).desc).isSome = true := by decide +kernel
theorem KI_X5_echoAt : Cond.instanceMethod (zyn Y_X5_echoAt) ∈ lw_all := q4373
def Y_X5_preferredEcho : ZY := (yX5_preferredEcho, cX5_preferredEcho, 3, some (.int), none, 7)
theorem K_X5_preferredEcho : zyc Y_X5_preferredEcho 2 := ⟨show zcw Y_X5_preferredEcho ∈ lw_all from q4370, q200, by decide +kernel, ⟨by decide, by decide⟩, Nat.le_of_ble_eq_true rfl⟩
theorem KS_X5_preferredEcho : (parseMethodDescriptor (zyn Y_X5_preferredEcho).desc).isSome = true := by decide +kernel
theorem KI_X5_preferredEcho : Cond.instanceMethod (zyn Y_X5_preferredEcho) ∈ lw_all := q4368
def Y_X5_wouldLeave : ZY := (yX5_wouldLeave, cX5_wouldLeave, 4, some (.boolean), none, 6)
theorem K_X5_wouldLeave : zyc Y_X5_wouldLeave 2 := ⟨show zcw Y_X5_wouldLeave ∈ lw_all from q4386, q200, by decide +kernel, ⟨by decide, by decide⟩, Nat.le_of_ble_eq_true rfl⟩
theorem KS_X5_wouldLeave : (parseMethodDescriptor (zyn Y_X5_wouldLeave).desc).isSome = true := by decide +kernel
theorem KI_X5_wouldLeave : Cond.instanceMethod (zyn Y_X5_wouldLeave) ∈ lw_all := q4385
def Y_X5_wouldTake : ZY := (yX5_wouldTake, cX5_wouldTake, 4, some (.boolean), none, 5)
theorem K_X5_wouldTake : zyc Y_X5_wouldTake 2 := ⟨show zcw Y_X5_wouldTake ∈ lw_all from q4390, q200, by decide +kernel, ⟨by decide, by decide⟩, Nat.le_of_ble_eq_true rfl⟩
theorem KS_X5_wouldTake : (parseMethodDescriptor (zyn Y_X5_wouldTake).desc).isSome = true := by decide +kernel
theorem KI_X5_wouldTake : Cond.instanceMethod (zyn Y_X5_wouldTake) ∈ lw_all := q4389
def Y_X5_isBlocking : ZY := (yX5_isBlocking, cX5_isBlocking, 3, some (.boolean), none, 7)
theorem K_X5_isBlocking : zyc Y_X5_isBlocking 2 := ⟨show zcw Y_X5_isBlocking ∈ lw_all from q4382, q200, by decide +kernel, ⟨by decide, by decide⟩, Nat.le_of_ble_eq_true rfl⟩
theorem KS_X5_isBlocking : (parseMethodDescriptor (zyn Y_X5_isBlocking).desc).isSome = true := by decide +kernel
theorem KI_X5_isBlocking : Cond.instanceMethod (zyn Y_X5_isBlocking) ∈ lw_all := q4381
def Y_X5_blockingPairs : ZY := (yX5_blockingPairs, cX5_blockingPairs, 4, some (.int), none, 8)
theorem K_X5_blockingPairs : zyc Y_X5_blockingPairs 0 := ⟨show zcw Y_X5_blockingPairs ∈ lw_all from q4378, q200, by decide +kernel, ⟨by decide, by decide⟩, Nat.le_of_ble_eq_true rfl⟩
theorem KS_X5_blockingPairs : (parseMethodDescriptor (zyn Y_X5_blockingPairs).desc).isSome = true := by decide +kernel
theorem KI_X5_blockingPairs : Cond.instanceMethod (zyn Y_X5_blockingPairs) ∈ lw_all := q4376
def Y_X5_laidBack : ZY := (yX5_laidBack, cX5_laidBack, 2, some (.int), none, 2)
theorem K_X5_laidBack : zyc Y_X5_laidBack 1 := ⟨show zcw Y_X5_laidBack ∈ lw_all from q4406, q200, by decide +kernel, ⟨by decide, by decide⟩, Nat.le_of_ble_eq_true rfl⟩
theorem KS_X5_laidBack : (parseMethodDescriptor (zyn Y_X5_laidBack).desc).isSome = true := by decide +kernel
theorem KI_X5_laidBack : Cond.instanceMethod (zyn Y_X5_laidBack) ∈ lw_all := q4405
def Y_X5_tries : ZY := (yX5_tries, cX5_tries, 1, none, none, 2)
theorem K_X5_tries : zyc Y_X5_tries 0 := ⟨show zcw Y_X5_tries ∈ lw_all from q4402, q200, by decide +kernel, ⟨by decide, by decide⟩, Nat.le_of_ble_eq_true rfl⟩
theorem KS_X5_tries : (parseMethodDescriptor (zyn Y_X5_tries).desc).isSome = true := by decide +kernel
theorem KI_X5_tries : Cond.instanceMethod (zyn Y_X5_tries) ∈ lw_all := q4401
def Y_X5_resultOf : ZY := (yX5_resultOf, cX5_resultOf, 2, some (.int), none, 8)
theorem K_X5_resultOf : zyc Y_X5_resultOf 1 := ⟨show zcw Y_X5_resultOf ∈ lw_all from q4398, q200, by decide +kernel, ⟨by decide, by decide⟩, Nat.le_of_ble_eq_true rfl⟩
theorem KS_X5_resultOf : (parseMethodDescriptor (zyn Y_X5_resultOf).desc).isSome = true := by decide +kernel
theorem KI_X5_resultOf : Cond.instanceMethod (zyn Y_X5_resultOf) ∈ lw_all := q4397
def Y_X5_fairResult : ZY := (yX5_fairResult, cX5_fairResult, 2, some (.int), none, 9)
theorem K_X5_fairResult : zyc Y_X5_fairResult 1 := ⟨show zcw Y_X5_fairResult ∈ lw_all from q4394, q200, by decide +kernel, ⟨by decide, by decide⟩, Nat.le_of_ble_eq_true rfl⟩
theorem KS_X5_fairResult : (parseMethodDescriptor (zyn Y_X5_fairResult).desc).isSome = true := by decide +kernel
theorem KI_X5_fairResult : Cond.instanceMethod (zyn Y_X5_fairResult) ∈ lw_all := q4392
def Y_X5_areDays : ZY := (yX5_areDays, cX5_areDays, 1, some (.boolean), none, 2)
theorem K_X5_areDays : zyc Y_X5_areDays 1 := ⟨show zcw Y_X5_areDays ∈ lw_all from q4413, q200, by decide +kernel, ⟨by decide, by decide⟩, Nat.le_of_ble_eq_true rfl⟩
theorem KS_X5_areDays : (parseMethodDescriptor (zyn Y_X5_areDays).desc).isSome = true := by decide +kernel
theorem KT_X5_areDays : Cond.static (zyn Y_X5_areDays) ∈ lw_all := q4412
def Y_X5_passesBoth : ZY := (yX5_passesBoth, cX5_passesBoth, 3, some (.boolean), none, 1)
theorem K_X5_passesBoth : zyc Y_X5_passesBoth 2 := ⟨show zcw Y_X5_passesBoth ∈ lw_all from q4418, q200, by decide +kernel, ⟨by decide, by decide⟩, Nat.le_of_ble_eq_true rfl⟩
theorem KS_X5_passesBoth : (parseMethodDescriptor (zyn Y_X5_passesBoth).desc).isSome = true := by decide +kernel
theorem KI_X5_passesBoth : Cond.instanceMethod (zyn Y_X5_passesBoth) ∈ lw_all := q4417
def Y_X5_savingsAfter : ZY := (yX5_savingsAfter, cX5_savingsAfter, 3, some (.int), none, 11)
theorem K_X5_savingsAfter : zyc Y_X5_savingsAfter 2 := ⟨show zcw Y_X5_savingsAfter ∈ lw_all from q4410, q200, by decide +kernel, ⟨by decide, by decide⟩, Nat.le_of_ble_eq_true rfl⟩
theorem KS_X5_savingsAfter : (parseMethodDescriptor (zyn Y_X5_savingsAfter).desc).isSome = true := by decide +kernel
theorem KI_X5_savingsAfter : Cond.instanceMethod (zyn Y_X5_savingsAfter) ∈ lw_all := q4408
def Y_X5_purseAfter : ZY := (yX5_purseAfter, cX5_purseAfter, 3, some (.int), none, 11)
theorem K_X5_purseAfter : zyc Y_X5_purseAfter 2 := ⟨show zcw Y_X5_purseAfter ∈ lw_all from q4422, q200, by decide +kernel, ⟨by decide, by decide⟩, Nat.le_of_ble_eq_true rfl⟩
theorem KS_X5_purseAfter : (parseMethodDescriptor (zyn Y_X5_purseAfter).desc).isSome = true := by decide +kernel
theorem KI_X5_purseAfter : Cond.instanceMethod (zyn Y_X5_purseAfter) ∈ lw_all := q4420
def Y_X5_desertsIn : ZY := (yX5_desertsIn, cX5_desertsIn, 4, some (.int), none, 10)
theorem K_X5_desertsIn : zyc Y_X5_desertsIn 1 := ⟨show zcw Y_X5_desertsIn ∈ lw_all from q4426, q200, by decide +kernel, ⟨by decide, by decide⟩, Nat.le_of_ble_eq_true rfl⟩
theorem KS_X5_desertsIn : (parseMethodDescriptor (zyn Y_X5_desertsIn).desc).isSome = true := by decide +kernel
theorem KI_X5_desertsIn : Cond.instanceMethod (zyn Y_X5_desertsIn) ∈ lw_all := q4424
def Y_X5_leastWage : ZY := (yX5_leastWage, cX5_leastWage, 6, some (.int), none, 9)
theorem K_X5_leastWage : zyc Y_X5_leastWage 2 := ⟨show zcw Y_X5_leastWage ∈ lw_all from q4430, q200, by decide +kernel, ⟨by decide, by decide⟩, Nat.le_of_ble_eq_true rfl⟩
theorem KS_X5_leastWage : (parseMethodDescriptor (zyn Y_X5_leastWage).desc).isSome = true := by decide +kernel
theorem KI_X5_leastWage : Cond.instanceMethod (zyn Y_X5_leastWage) ∈ lw_all := q4428
def Y_X5_bestTest : ZY := (yX5_bestTest, cX5_bestTest, 4, some (.int), none, 4)
theorem K_X5_bestTest : zyc Y_X5_bestTest 1 := ⟨show zcw Y_X5_bestTest ∈ lw_all from q4434, q200, by decide +kernel, ⟨by decide, by decide⟩, Nat.le_of_ble_eq_true rfl⟩
theorem KS_X5_bestTest : (parseMethodDescriptor (zyn Y_X5_bestTest).desc).isSome = true := by decide +kernel
theorem KI_X5_bestTest : Cond.instanceMethod (zyn Y_X5_bestTest) ∈ lw_all := q4432
def Y_X5_richestEcho : ZY := (yX5_richestEcho, cX5_richestEcho, 3, some (.int), none, 2)
theorem K_X5_richestEcho : zyc Y_X5_richestEcho 0 := ⟨show zcw Y_X5_richestEcho ∈ lw_all from q4438, q200, by decide +kernel, ⟨by decide, by decide⟩, Nat.le_of_ble_eq_true rfl⟩
theorem KS_X5_richestEcho : (parseMethodDescriptor (zyn Y_X5_richestEcho).desc).isSome = true := by decide +kernel
theorem KI_X5_richestEcho : Cond.instanceMethod (zyn Y_X5_richestEcho) ∈ lw_all := q4436
def Y_X5_daysServed : ZY := (yX5_daysServed, cX5_daysServed, 3, some (.int), none, 4)
theorem K_X5_daysServed : zyc Y_X5_daysServed 2 := ⟨show zcw Y_X5_daysServed ∈ lw_all from q4442, q200, by decide +kernel, ⟨by decide, by decide⟩, Nat.le_of_ble_eq_true rfl⟩
theorem KS_X5_daysServed : (parseMethodDescriptor (zyn Y_X5_daysServed).desc).isSome = true := by decide +kernel
theorem KI_X5_daysServed : Cond.instanceMethod (zyn Y_X5_daysServed) ∈ lw_all := q4440
def Y_X5_contractsMade : ZY := (yX5_contractsMade, cX5_contractsMade, 1, some (.int), none, 2)
theorem K_X5_contractsMade : zyc Y_X5_contractsMade 0 := ⟨show zcw Y_X5_contractsMade ∈ lw_all from q4446, q200, by decide +kernel, ⟨by decide, by decide⟩, Nat.le_of_ble_eq_true rfl⟩
theorem KS_X5_contractsMade : (parseMethodDescriptor (zyn Y_X5_contractsMade).desc).isSome = true := by decide +kernel
theorem KI_X5_contractsMade : Cond.instanceMethod (zyn Y_X5_contractsMade) ∈ lw_all := q4444
def Y_X5_contractsEnded : ZY := (yX5_contractsEnded, cX5_contractsEnded, 1, some (.int), none, 2)
theorem K_X5_contractsEnded : zyc Y_X5_contractsEnded 0 := ⟨show zcw Y_X5_contractsEnded ∈ lw_all from q4450, q200, by decide +kernel, ⟨by decide, by decide⟩, Nat.le_of_ble_eq_true rfl⟩
theorem KS_X5_contractsEnded : (parseMethodDescriptor (zyn Y_X5_contractsEnded).desc).isSome = true := by decide +kernel
theorem KI_X5_contractsEnded : Cond.instanceMethod (zyn Y_X5_contractsEnded) ∈ lw_all := q4448
def Y_X5_desertions : ZY := (yX5_desertions, cX5_desertions, 2, some (.int), none, 4)
theorem K_X5_desertions : zyc Y_X5_desertions 1 := ⟨show zcw Y_X5_desertions ∈ lw_all from q4454, q200, by decide +kernel, ⟨by decide, by decide⟩, Nat.le_of_ble_eq_true rfl⟩
theorem KS_X5_desertions : (parseMethodDescriptor (zyn Y_X5_desertions).desc).isSome = true := by decide +kernel
theorem KI_X5_desertions : Cond.instanceMethod (zyn Y_X5_desertions) ∈ lw_all := q4452
def Y_X5_repliesHeard : ZY := (yX5_repliesHeard, cX5_repliesHeard, 2, some (.int), none, 4)
theorem K_X5_repliesHeard : zyc Y_X5_repliesHeard 1 := ⟨show zcw Y_X5_repliesHeard ∈ lw_all from q4458, q200, by decide +kernel, ⟨by decide, by decide⟩, Nat.le_of_ble_eq_true rfl⟩
theorem KS_X5_repliesHeard : (parseMethodDescriptor (zyn Y_X5_repliesHeard).desc).isSome = true := by decide +kernel
theorem KI_X5_repliesHeard : Cond.instanceMethod (zyn Y_X5_repliesHeard) ∈ lw_all := q4456
def Y_X5_wagesPaid : ZY := (yX5_wagesPaid, cX5_wagesPaid, 2, some (.int), none, 4)
theorem K_X5_wagesPaid : zyc Y_X5_wagesPaid 1 := ⟨show zcw Y_X5_wagesPaid ∈ lw_all from q4462, q200, by decide +kernel, ⟨by decide, by decide⟩, Nat.le_of_ble_eq_true rfl⟩
theorem KS_X5_wagesPaid : (parseMethodDescriptor (zyn Y_X5_wagesPaid).desc).isSome = true := by decide +kernel
theorem KI_X5_wagesPaid : Cond.instanceMethod (zyn Y_X5_wagesPaid) ∈ lw_all := q4460
def Y_X5_purses : ZY := (yX5_purses, cX5_purses, 3, some (.int), none, 2)
theorem K_X5_purses : zyc Y_X5_purses 0 := ⟨show zcw Y_X5_purses ∈ lw_all from q4470, q200, by decide +kernel, ⟨by decide, by decide⟩, Nat.le_of_ble_eq_true rfl⟩
theorem KS_X5_purses : (parseMethodDescriptor (zyn Y_X5_purses).desc).isSome = true := by decide +kernel
theorem KI_X5_purses : Cond.instanceMethod (zyn Y_X5_purses) ∈ lw_all := q4469
def Y_X5_savings : ZY := (yX5_savings, cX5_savings, 3, some (.int), none, 2)
theorem K_X5_savings : zyc Y_X5_savings 0 := ⟨show zcw Y_X5_savings ∈ lw_all from q4474, q200, by decide +kernel, ⟨by decide, by decide⟩, Nat.le_of_ble_eq_true rfl⟩
theorem KS_X5_savings : (parseMethodDescriptor (zyn Y_X5_savings).desc).isSome = true := by decide +kernel
theorem KI_X5_savings : Cond.instanceMethod (zyn Y_X5_savings) ∈ lw_all := q4473
def Y_X5_moneyImbalance : ZY := (yX5_moneyImbalance, cX5_moneyImbalance, 1, some (.int), none, 3)
theorem K_X5_moneyImbalance : zyc Y_X5_moneyImbalance 0 := ⟨show zcw Y_X5_moneyImbalance ∈ lw_all from q4466, q200, by decide +kernel, ⟨by decide, by decide⟩, Nat.le_of_ble_eq_true rfl⟩
theorem KS_X5_moneyImbalance : (parseMethodDescriptor (zyn Y_X5_moneyImbalance).desc).isSome = true := by decide +kernel
theorem KI_X5_moneyImbalance : Cond.instanceMethod (zyn Y_X5_moneyImbalance) ∈ lw_all := q4464
def Y_X5_contracts : ZY := (yX5_contracts, cX5_contracts, 3, some (.int), none, 3)
theorem K_X5_contracts : zyc Y_X5_contracts 0 := ⟨show zcw Y_X5_contracts ∈ lw_all from q4482, q200, by decide +kernel, ⟨by decide, by decide⟩, Nat.le_of_ble_eq_true rfl⟩
theorem KS_X5_contracts : (parseMethodDescriptor (zyn Y_X5_contracts).desc).isSome = true := by decide +kernel
theorem KI_X5_contracts : Cond.instanceMethod (zyn Y_X5_contracts) ∈ lw_all := q4481
def Y_X5_contractImbalance : ZY := (yX5_contractImbalance, cX5_contractImbalance, 1, some (.int), none, 4)
theorem K_X5_contractImbalance : zyc Y_X5_contractImbalance 0 := ⟨show zcw Y_X5_contractImbalance ∈ lw_all from q4478, q200, by decide +kernel, ⟨by decide, by decide⟩, Nat.le_of_ble_eq_true rfl⟩
theorem KS_X5_contractImbalance : (parseMethodDescriptor (zyn Y_X5_contractImbalance).desc).isSome = true := by decide +kernel
theorem KI_X5_contractImbalance : Cond.instanceMethod (zyn Y_X5_contractImbalance) ∈ lw_all := q4476
def Y_X5_servedBy : ZY := (yX5_servedBy, cX5_servedBy, 5, some (.int), none, 2)
theorem K_X5_servedBy : zyc Y_X5_servedBy 1 := ⟨show zcw Y_X5_servedBy ∈ lw_all from q4490, q200, by decide +kernel, ⟨by decide, by decide⟩, Nat.le_of_ble_eq_true rfl⟩
theorem KS_X5_servedBy : (parseMethodDescriptor (zyn Y_X5_servedBy).desc).isSome = true := by decide +kernel
theorem KI_X5_servedBy : Cond.instanceMethod (zyn Y_X5_servedBy) ∈ lw_all := q4489
def Y_X5_doubleServants : ZY := (yX5_doubleServants, cX5_doubleServants, 3, some (.int), none, 3)
theorem K_X5_doubleServants : zyc Y_X5_doubleServants 0 := ⟨show zcw Y_X5_doubleServants ∈ lw_all from q4486, q200, by decide +kernel, ⟨by decide, by decide⟩, Nat.le_of_ble_eq_true rfl⟩
theorem KS_X5_doubleServants : (parseMethodDescriptor (zyn Y_X5_doubleServants).desc).isSome = true := by decide +kernel
theorem KI_X5_doubleServants : Cond.instanceMethod (zyn Y_X5_doubleServants) ∈ lw_all := q4484
def Y_X5_meanSavings : ZY := (yX5_meanSavings, cX5_meanSavings, 1, some (.double), none, 3)
theorem K_X5_meanSavings : zyc Y_X5_meanSavings 0 := ⟨show zcw Y_X5_meanSavings ∈ lw_all from q4494, q200, by decide +kernel, ⟨by decide, by decide⟩, Nat.le_of_ble_eq_true rfl⟩
theorem KS_X5_meanSavings : (parseMethodDescriptor (zyn Y_X5_meanSavings).desc).isSome = true := by decide +kernel
theorem KI_X5_meanSavings : Cond.instanceMethod (zyn Y_X5_meanSavings) ∈ lw_all := q4492
def Y_X5_employmentRate : ZY := (yX5_employmentRate, cX5_employmentRate, 1, some (.float), none, 4)
theorem K_X5_employmentRate : zyc Y_X5_employmentRate 0 := ⟨show zcw Y_X5_employmentRate ∈ lw_all from q4498, q200, by decide +kernel, ⟨by decide, by decide⟩, Nat.le_of_ble_eq_true rfl⟩
theorem KS_X5_employmentRate : (parseMethodDescriptor (zyn Y_X5_employmentRate).desc).isSome = true := by decide +kernel
theorem KI_X5_employmentRate : Cond.instanceMethod (zyn Y_X5_employmentRate) ∈ lw_all := q4496
def Y_X5_done : ZY := (yX5_done, cX5_done, 2, some (.int), none, 3)
theorem K_X5_done : zyc Y_X5_done 1 := ⟨show zcw Y_X5_done ∈ lw_all from q4511, q200, by decide +kernel, ⟨by decide, by decide⟩, Nat.le_of_ble_eq_true rfl⟩
theorem KS_X5_done : (parseMethodDescriptor (zyn Y_X5_done).desc).isSome = true := by decide +kernel
theorem KI_X5_done : Cond.instanceMethod (zyn Y_X5_done) ∈ lw_all := q4510
def Y_X5_tried : ZY := (yX5_tried, cX5_tried, 2, some (.boolean), none, 2)
theorem K_X5_tried : zyc Y_X5_tried 1 := ⟨show zcw Y_X5_tried ∈ lw_all from q4507, q200, by decide +kernel, ⟨by decide, by decide⟩, Nat.le_of_ble_eq_true rfl⟩
theorem KS_X5_tried : (parseMethodDescriptor (zyn Y_X5_tried).desc).isSome = true := by decide +kernel
theorem KI_X5_tried : Cond.instanceMethod (zyn Y_X5_tried) ∈ lw_all := q4506
def Y_X5_passDays : ZY := (yX5_passDays, cX5_passDays, 2, some (.int), none, 12)
theorem K_X5_passDays : zyc Y_X5_passDays 1 := ⟨show zcw Y_X5_passDays ∈ lw_all from q4502, q200, by decide +kernel, ⟨by decide, by decide⟩, Nat.le_of_ble_eq_true rfl⟩
theorem KS_X5_passDays : (parseMethodDescriptor (zyn Y_X5_passDays).desc).isSome = true := by decide +kernel
theorem KI_X5_passDays : Cond.instanceMethod (zyn Y_X5_passDays) ∈ lw_all := q4500
def Y_X5_holdFair : ZY := (yX5_holdFair, cX5_holdFair, 1, some (.int), none, 9)
theorem K_X5_holdFair : zyc Y_X5_holdFair 0 := ⟨show zcw Y_X5_holdFair ∈ lw_all from q4515, q200, by decide +kernel, ⟨by decide, by decide⟩, Nat.le_of_ble_eq_true rfl⟩
theorem KS_X5_holdFair : (parseMethodDescriptor (zyn Y_X5_holdFair).desc).isSome = true := by decide +kernel
theorem KI_X5_holdFair : Cond.instanceMethod (zyn Y_X5_holdFair) ∈ lw_all := q4513
def Y_X5_test : ZY := (yX5_test, cX5_test, 4, some (.int), none, 5)
theorem K_X5_test : zyc Y_X5_test 2 := ⟨show zcw Y_X5_test ∈ lw_all from q4519, q200, by decide +kernel, ⟨by decide, by decide⟩, Nat.le_of_ble_eq_true rfl⟩
theorem KS_X5_test : (parseMethodDescriptor (zyn Y_X5_test).desc).isSome = true := by decide +kernel
theorem KI_X5_test : Cond.instanceMethod (zyn Y_X5_test) ∈ lw_all := q4517
def Y_X5_dismiss : ZY := (yX5_dismiss, cX5_dismiss, 2, some (.int), none, 5)
theorem K_X5_dismiss : zyc Y_X5_dismiss 1 := ⟨show zcw Y_X5_dismiss ∈ lw_all from q4523, q200, by decide +kernel, ⟨by decide, by decide⟩, Nat.le_of_ble_eq_true rfl⟩
theorem KS_X5_dismiss : (parseMethodDescriptor (zyn Y_X5_dismiss).desc).isSome = true := by decide +kernel
theorem KI_X5_dismiss : Cond.instanceMethod (zyn Y_X5_dismiss) ∈ lw_all := q4521
def Y_X5_setWage : ZY := (yX5_setWage, cX5_setWage, 3, some (.int), none, 4)
theorem K_X5_setWage : zyc Y_X5_setWage 2 := ⟨show zcw Y_X5_setWage ∈ lw_all from q4527, q200, by decide +kernel, ⟨by decide, by decide⟩, Nat.le_of_ble_eq_true rfl⟩
theorem KS_X5_setWage : (parseMethodDescriptor (zyn Y_X5_setWage).desc).isSome = true := by decide +kernel
theorem KI_X5_setWage : Cond.instanceMethod (zyn Y_X5_setWage) ∈ lw_all := q4525
def Y_X5_fund : ZY := (yX5_fund, cX5_fund, 3, some (.int), none, 4)
theorem K_X5_fund : zyc Y_X5_fund 2 := ⟨show zcw Y_X5_fund ∈ lw_all from q4532, q200, by decide +kernel, ⟨by decide, by decide⟩, Nat.le_of_ble_eq_true rfl⟩
theorem KS_X5_fund : (parseMethodDescriptor (zyn Y_X5_fund).desc).isSome = true := by decide +kernel
theorem KI_X5_fund : Cond.instanceMethod (zyn Y_X5_fund) ∈ lw_all := q4530
def Y_X5_train : ZY := (yX5_train, cX5_train, 2, some (.int), none, 4)
theorem K_X5_train : zyc Y_X5_train 1 := ⟨show zcw Y_X5_train ∈ lw_all from q4537, q200, by decide +kernel, ⟨by decide, by decide⟩, Nat.le_of_ble_eq_true rfl⟩
theorem KS_X5_train : (parseMethodDescriptor (zyn Y_X5_train).desc).isSome = true := by decide +kernel
theorem KI_X5_train : Cond.instanceMethod (zyn Y_X5_train) ∈ lw_all := q4535
def Y_X5_undo : ZY := (yX5_undo, cX5_undo, 1, some (.int), none, 2)
theorem K_X5_undo : zyc Y_X5_undo 0 := ⟨show zcw Y_X5_undo ∈ lw_all from q4541, q200, by decide +kernel, ⟨by decide, by decide⟩, Nat.le_of_ble_eq_true rfl⟩
theorem KS_X5_undo : (parseMethodDescriptor (zyn Y_X5_undo).desc).isSome = true := by decide +kernel
theorem KI_X5_undo : Cond.instanceMethod (zyn Y_X5_undo) ∈ lw_all := q4539
def Y_X5_save : ZY := (yX5_save, cX5_save, 1, some (.int), none, 2)
theorem K_X5_save : zyc Y_X5_save 0 := ⟨show zcw Y_X5_save ∈ lw_all from q4545, q200, by decide +kernel, ⟨by decide, by decide⟩, Nat.le_of_ble_eq_true rfl⟩
theorem KS_X5_save : (parseMethodDescriptor (zyn Y_X5_save).desc).isSome = true := by decide +kernel
theorem KI_X5_save : Cond.instanceMethod (zyn Y_X5_save) ∈ lw_all := q4543
def Y_X5_restore : ZY := (yX5_restore, cX5_restore, 1, some (.int), none, 2)
theorem K_X5_restore : zyc Y_X5_restore 0 := ⟨show zcw Y_X5_restore ∈ lw_all from q4549, q200, by decide +kernel, ⟨by decide, by decide⟩, Nat.le_of_ble_eq_true rfl⟩
theorem KS_X5_restore : (parseMethodDescriptor (zyn Y_X5_restore).desc).isSome = true := by decide +kernel
theorem KI_X5_restore : Cond.instanceMethod (zyn Y_X5_restore) ∈ lw_all := q4547
def Y_X5_writes : ZY := (yX5_writes, cX5_writes, 2, none, none, 1)
theorem K_X5_writes : zyc Y_X5_writes 1 := ⟨show zcw Y_X5_writes ∈ lw_all from q4557, q200, by decide +kernel, ⟨by decide, by decide⟩, Nat.le_of_ble_eq_true rfl⟩
theorem KS_X5_writes : (parseMethodDescriptor (zyn Y_X5_writes).desc).isSome = true := by decide +kernel
theorem KI_X5_writes : Cond.instanceMethod (zyn Y_X5_writes) ∈ lw_all := q4556
def Y_X5_writesName : ZY := (yX5_writesName, cX5_writesName, 3, none, none, 2)
theorem K_X5_writesName : zyc Y_X5_writesName 1 := ⟨show zcw Y_X5_writesName ∈ lw_all from q4561, q200, by decide +kernel, ⟨by decide, by decide⟩, Nat.le_of_ble_eq_true rfl⟩
theorem KS_X5_writesName : (parseMethodDescriptor (zyn Y_X5_writesName).desc).isSome = true := by decide +kernel
theorem KI_X5_writesName : Cond.instanceMethod (zyn Y_X5_writesName) ∈ lw_all := q4560
def Y_X5_formatContracts : ZY := (yX5_formatContracts, cX5_formatContracts, 3, some (.int), none, 3)
theorem K_X5_formatContracts : zyc Y_X5_formatContracts 0 := ⟨show zcw Y_X5_formatContracts ∈ lw_all from q4553, q200, by decide +kernel, ⟨by decide, by decide⟩, Nat.le_of_ble_eq_true rfl⟩
theorem KS_X5_formatContracts : (parseMethodDescriptor (zyn Y_X5_formatContracts).desc).isSome = true := by decide +kernel
theorem KI_X5_formatContracts : Cond.instanceMethod (zyn Y_X5_formatContracts) ∈ lw_all := q4551
def Y_X5_outputByte : ZY := (yX5_outputByte, cX5_outputByte, 2, some (.int), none, 2)
theorem K_X5_outputByte : zyc Y_X5_outputByte 1 := ⟨show zcw Y_X5_outputByte ∈ lw_all from q4565, q200, by decide +kernel, ⟨by decide, by decide⟩, Nat.le_of_ble_eq_true rfl⟩
theorem KS_X5_outputByte : (parseMethodDescriptor (zyn Y_X5_outputByte).desc).isSome = true := by decide +kernel
theorem KI_X5_outputByte : Cond.instanceMethod (zyn Y_X5_outputByte) ∈ lw_all := q4563
def Y_X6_lambda_passCommand_1 : ZY := (yX6_lambda_passCommand_1, cX6_lambda_passCommand_1, 2, some (.int), none, 13)
theorem K_X6_lambda_passCommand_1 : zyc Y_X6_lambda_passCommand_1 2 := ⟨show zcw Y_X6_lambda_passCommand_1 ∈ lw_all from q3315, q201, by decide +kernel, ⟨by decide, by decide⟩, Nat.le_of_ble_eq_true rfl⟩
theorem KS_X6_lambda_passCommand_1 : (parseMethodDescriptor (zyn Y_X6_lambda_passCommand_1).desc).isSome = true := by decide +kernel
theorem KT_X6_lambda_passCommand_1 : Cond.static (zyn Y_X6_lambda_passCommand_1) ∈ lw_all := q3314
def Y_X6_lambda_command_0 : ZY := (yX6_lambda_command_0, cX6_lambda_command_0, 1, some (.int), none, 9)
theorem K_X6_lambda_command_0 : zyc Y_X6_lambda_command_0 1 := ⟨show zcw Y_X6_lambda_command_0 ∈ lw_all from q3398, q201, by decide +kernel, ⟨by decide, by decide⟩, Nat.le_of_ble_eq_true rfl⟩
theorem KS_X6_lambda_command_0 : (parseMethodDescriptor (zyn Y_X6_lambda_command_0).desc).isSome = true := by decide +kernel
theorem KT_X6_lambda_command_0 : Cond.static (zyn Y_X6_lambda_command_0) ∈ lw_all := q3397
def Y_X6_lambda_testCommand_2 : ZY := (yX6_lambda_testCommand_2, cX6_lambda_testCommand_2, 3, some (.int), none, 8)
theorem K_X6_lambda_testCommand_2 : zyc Y_X6_lambda_testCommand_2 3 := ⟨show zcw Y_X6_lambda_testCommand_2 ∈ lw_all from q3405, q201, by decide +kernel, ⟨by decide, by decide⟩, Nat.le_of_ble_eq_true rfl⟩
theorem KS_X6_lambda_testCommand_2 : (parseMethodDescriptor (zyn Y_X6_lambda_testCommand_2).desc).isSome = true := by decide +kernel
theorem KT_X6_lambda_testCommand_2 : Cond.static (zyn Y_X6_lambda_testCommand_2) ∈ lw_all := q3404
def Y_X6_lambda_dismissCommand_3 : ZY := (yX6_lambda_dismissCommand_3, cX6_lambda_dismissCommand_3, 2, some (.int), none, 8)
theorem K_X6_lambda_dismissCommand_3 : zyc Y_X6_lambda_dismissCommand_3 2 := ⟨show zcw Y_X6_lambda_dismissCommand_3 ∈ lw_all from q3416, q201, by decide +kernel, ⟨by decide, by decide⟩, Nat.le_of_ble_eq_true rfl⟩
theorem KS_X6_lambda_dismissCommand_3 : (parseMethodDescriptor (zyn Y_X6_lambda_dismissCommand_3).desc).isSome = true := by decide +kernel
theorem KT_X6_lambda_dismissCommand_3 : Cond.static (zyn Y_X6_lambda_dismissCommand_3) ∈ lw_all := q3415
def Y_X6_lambda_wageCommand_4 : ZY := (yX6_lambda_wageCommand_4, cX6_lambda_wageCommand_4, 3, some (.int), none, 6)
theorem K_X6_lambda_wageCommand_4 : zyc Y_X6_lambda_wageCommand_4 3 := ⟨show zcw Y_X6_lambda_wageCommand_4 ∈ lw_all from q3426, q201, by decide +kernel, ⟨by decide, by decide⟩, Nat.le_of_ble_eq_true rfl⟩
theorem KS_X6_lambda_wageCommand_4 : (parseMethodDescriptor (zyn Y_X6_lambda_wageCommand_4).desc).isSome = true := by decide +kernel
theorem KT_X6_lambda_wageCommand_4 : Cond.static (zyn Y_X6_lambda_wageCommand_4) ∈ lw_all := q3425
def Y_X6_lambda_fundCommand_5 : ZY := (yX6_lambda_fundCommand_5, cX6_lambda_fundCommand_5, 3, some (.int), none, 6)
theorem K_X6_lambda_fundCommand_5 : zyc Y_X6_lambda_fundCommand_5 3 := ⟨show zcw Y_X6_lambda_fundCommand_5 ∈ lw_all from q3436, q201, by decide +kernel, ⟨by decide, by decide⟩, Nat.le_of_ble_eq_true rfl⟩
theorem KS_X6_lambda_fundCommand_5 : (parseMethodDescriptor (zyn Y_X6_lambda_fundCommand_5).desc).isSome = true := by decide +kernel
theorem KT_X6_lambda_fundCommand_5 : Cond.static (zyn Y_X6_lambda_fundCommand_5) ∈ lw_all := q3435
def Y_X6_lambda_trainCommand_6 : ZY := (yX6_lambda_trainCommand_6, cX6_lambda_trainCommand_6, 2, some (.int), none, 8)
theorem K_X6_lambda_trainCommand_6 : zyc Y_X6_lambda_trainCommand_6 2 := ⟨show zcw Y_X6_lambda_trainCommand_6 ∈ lw_all from q3446, q201, by decide +kernel, ⟨by decide, by decide⟩, Nat.le_of_ble_eq_true rfl⟩
theorem KS_X6_lambda_trainCommand_6 : (parseMethodDescriptor (zyn Y_X6_lambda_trainCommand_6).desc).isSome = true := by decide +kernel
theorem KT_X6_lambda_trainCommand_6 : Cond.static (zyn Y_X6_lambda_trainCommand_6) ∈ lw_all := q3445
