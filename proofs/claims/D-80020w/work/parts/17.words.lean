/-! words of the tables, by their places; classes; printed by gen.py -/
theorem wd_0 : Cond.selects "IdealProver" ⟨"IdealProver", "order", "()LIdealProver$Order;"⟩ ⟨"IdealProver", "order", "()LIdealProver$Order;"⟩ ∈ jm_tb := jm_in 0 (by decide +kernel) rfl
theorem wd_1 : Cond.selects "IdealProver$Fraction" ⟨"IdealProver$Fraction", "set", "(JJ)V"⟩ ⟨"IdealProver$Fraction", "set", "(JJ)V"⟩ ∈ jm_tb := jm_in 1 (by decide +kernel) rfl
theorem wd_3 : Cond.selects "IdealProver$Poly" ⟨"IdealProver$Poly", "insert", "(IIII)V"⟩ ⟨"IdealProver$Poly", "insert", "(IIII)V"⟩ ∈ jm_tb := jm_in 3 (by decide +kernel) rfl
theorem wd_4 : Cond.selects "IdealProver$Poly" ⟨"IdealProver$Poly", "remove", "(I)V"⟩ ⟨"IdealProver$Poly", "remove", "(I)V"⟩ ∈ jm_tb := jm_in 4 (by decide +kernel) rfl
theorem wd_5 : Cond.selects "IdealProver" ⟨"IdealProver", "give", "(LIdealProver$Poly;I)I"⟩ ⟨"IdealProver", "give", "(LIdealProver$Poly;I)I"⟩ ∈ jm_tb := jm_in 5 (by decide +kernel) rfl
theorem wd_6 : Cond.selects "IdealProver" ⟨"IdealProver", "multiply", "(LIdealProver$Poly;LIdealProver$Poly;LIdealProver$Poly;)V"⟩ ⟨"IdealProver", "multiply", "(LIdealProver$Poly;LIdealProver$Poly;LIdealProver$Poly;)V"⟩ ∈ jm_tb := jm_in 6 (by decide +kernel) rfl
theorem wd_7 : Cond.selects "IdealProver" ⟨"IdealProver", "valueIsZero", "(LIdealProver$Poly;IIII)I"⟩ ⟨"IdealProver", "valueIsZero", "(LIdealProver$Poly;IIII)I"⟩ ∈ jm_tb := jm_in 7 (by decide +kernel) rfl
theorem wd_8 : Cond.selects "IdealProver$Engine" ⟨"IdealProver$Engine", "begin", "(LIdealProver$Order;I)V"⟩ ⟨"IdealProver$Engine", "begin", "(LIdealProver$Order;I)V"⟩ ∈ jm_tb := jm_in 8 (by decide +kernel) rfl
theorem wd_9 : Cond.selects "IdealProver$Engine" ⟨"IdealProver$Engine", "join", "()V"⟩ ⟨"IdealProver$Engine", "join", "()V"⟩ ∈ jm_tb := jm_in 9 (by decide +kernel) rfl
theorem wd_10 : Cond.selects "IdealProver$Engine" ⟨"IdealProver$Engine", "next", "()I"⟩ ⟨"IdealProver$Engine", "next", "()I"⟩ ∈ jm_tb := jm_in 10 (by decide +kernel) rfl
theorem wd_11 : Cond.selects "IdealProver$Engine" ⟨"IdealProver$Engine", "lead", "(I)I"⟩ ⟨"IdealProver$Engine", "lead", "(I)I"⟩ ∈ jm_tb := jm_in 11 (by decide +kernel) rfl
theorem wd_12 : Cond.selects "IdealProver$Engine" ⟨"IdealProver$Engine", "isPassed", "(III)Z"⟩ ⟨"IdealProver$Engine", "isPassed", "(III)Z"⟩ ∈ jm_tb := jm_in 12 (by decide +kernel) rfl
theorem wd_13 : Cond.selects "IdealProver$Engine" ⟨"IdealProver$Engine", "isWaiting", "(II)Z"⟩ ⟨"IdealProver$Engine", "isWaiting", "(II)Z"⟩ ∈ jm_tb := jm_in 13 (by decide +kernel) rfl
theorem wd_14 : Cond.selects "IdealProver$Engine" ⟨"IdealProver$Engine", "pair", "(IIII)V"⟩ ⟨"IdealProver$Engine", "pair", "(IIII)V"⟩ ∈ jm_tb := jm_in 14 (by decide +kernel) rfl
theorem wd_15 : Cond.selects "IdealProver$Engine" ⟨"IdealProver$Engine", "divide", "(I)V"⟩ ⟨"IdealProver$Engine", "divide", "(I)V"⟩ ∈ jm_tb := jm_in 15 (by decide +kernel) rfl
theorem wd_16 : Cond.selects "IdealProver$Engine" ⟨"IdealProver$Engine", "step", "()V"⟩ ⟨"IdealProver$Engine", "step", "()V"⟩ ∈ jm_tb := jm_in 16 (by decide +kernel) rfl
theorem wd_17 : Cond.selects "IdealProver$Engine" ⟨"IdealProver$Engine", "shares", "(LIdealProver$Poly;I)V"⟩ ⟨"IdealProver$Engine", "shares", "(LIdealProver$Poly;I)V"⟩ ∈ jm_tb := jm_in 17 (by decide +kernel) rfl
theorem wd_18 : Cond.selects "IdealProver$Engine" ⟨"IdealProver$Engine", "thin", "()V"⟩ ⟨"IdealProver$Engine", "thin", "()V"⟩ ∈ jm_tb := jm_in 18 (by decide +kernel) rfl
theorem wd_19 : Cond.selects "IdealProver$Engine" ⟨"IdealProver$Engine", "swap", "(II)V"⟩ ⟨"IdealProver$Engine", "swap", "(II)V"⟩ ∈ jm_tb := jm_in 19 (by decide +kernel) rfl
theorem wd_20 : Cond.selects "IdealProver$Engine" ⟨"IdealProver$Engine", "reduce", "(II)V"⟩ ⟨"IdealProver$Engine", "reduce", "(II)V"⟩ ∈ jm_tb := jm_in 20 (by decide +kernel) rfl
theorem wd_21 : Cond.selects "IdealProver" ⟨"IdealProver", "isElement", "(I)Z"⟩ ⟨"IdealProver", "isElement", "(I)Z"⟩ ∈ jm_tb := jm_in 21 (by decide +kernel) rfl
theorem wd_22 : Cond.selects "IdealProver" ⟨"IdealProver", "pure", "(I)I"⟩ ⟨"IdealProver", "pure", "(I)I"⟩ ∈ jm_tb := jm_in 22 (by decide +kernel) rfl
theorem wd_23 : Cond.selects "IdealProverModel" ⟨"IdealProverModel", "sorted", "(I)V"⟩ ⟨"IdealProverModel", "sorted", "(I)V"⟩ ∈ jm_tb := jm_in 23 (by decide +kernel) rfl
theorem wd_24 : Cond.selects "IdealProverModel" ⟨"IdealProverModel", "compare", "(II)I"⟩ ⟨"IdealProverModel", "compare", "(II)I"⟩ ∈ jm_tb := jm_in 24 (by decide +kernel) rfl
theorem wd_25 : Cond.selects "IdealProverModel" ⟨"IdealProverModel", "sum", "(I)I"⟩ ⟨"IdealProverModel", "sum", "(I)I"⟩ ∈ jm_tb := jm_in 25 (by decide +kernel) rfl
theorem wd_26 : Cond.selects "IdealProverModel" ⟨"IdealProverModel", "copy", "(II)V"⟩ ⟨"IdealProverModel", "copy", "(II)V"⟩ ∈ jm_tb := jm_in 26 (by decide +kernel) rfl
theorem wd_27 : Cond.selects "IdealProverModel" ⟨"IdealProverModel", "lowest", "(JJ)V"⟩ ⟨"IdealProverModel", "lowest", "(JJ)V"⟩ ∈ jm_tb := jm_in 27 (by decide +kernel) rfl
theorem wd_28 : Cond.selects "IdealProverModel" ⟨"IdealProverModel", "comes", "(IIII)V"⟩ ⟨"IdealProverModel", "comes", "(IIII)V"⟩ ∈ jm_tb := jm_in 28 (by decide +kernel) rfl
theorem wd_29 : Cond.selects "IdealProverModel" ⟨"IdealProverModel", "taken", "(II)I"⟩ ⟨"IdealProverModel", "taken", "(II)I"⟩ ∈ jm_tb := jm_in 29 (by decide +kernel) rfl
theorem wd_30 : Cond.selects "IdealProverModel" ⟨"IdealProverModel", "adds", "(IIIII)V"⟩ ⟨"IdealProverModel", "adds", "(IIIII)V"⟩ ∈ jm_tb := jm_in 30 (by decide +kernel) rfl
theorem wd_31 : Cond.selects "IdealProverModel" ⟨"IdealProverModel", "product", "(II)I"⟩ ⟨"IdealProverModel", "product", "(II)I"⟩ ∈ jm_tb := jm_in 31 (by decide +kernel) rfl
theorem wd_32 : Cond.selects "IdealProverModel" ⟨"IdealProverModel", "multiplied", "(JJJJ)V"⟩ ⟨"IdealProverModel", "multiplied", "(JJJJ)V"⟩ ∈ jm_tb := jm_in 32 (by decide +kernel) rfl
theorem wd_33 : Cond.selects "IdealProverModel" ⟨"IdealProverModel", "made", "(III)V"⟩ ⟨"IdealProverModel", "made", "(III)V"⟩ ∈ jm_tb := jm_in 33 (by decide +kernel) rfl
theorem wd_34 : Cond.selects "IdealProverModel" ⟨"IdealProverModel", "isSame", "(II)Z"⟩ ⟨"IdealProverModel", "isSame", "(II)Z"⟩ ∈ jm_tb := jm_in 34 (by decide +kernel) rfl
theorem wd_35 : Cond.selects "IdealProverModel" ⟨"IdealProverModel", "make", "(IIZ)V"⟩ ⟨"IdealProverModel", "make", "(IIZ)V"⟩ ∈ jm_tb := jm_in 35 (by decide +kernel) rfl
theorem wd_36 : Cond.selects "IdealProverModel" ⟨"IdealProverModel", "cofactor", "(II)I"⟩ ⟨"IdealProverModel", "cofactor", "(II)I"⟩ ∈ jm_tb := jm_in 36 (by decide +kernel) rfl
theorem wd_37 : Cond.selects "IdealProverModel" ⟨"IdealProverModel", "monic", "(I)V"⟩ ⟨"IdealProverModel", "monic", "(I)V"⟩ ∈ jm_tb := jm_in 37 (by decide +kernel) rfl
theorem wd_38 : Cond.selects "IdealProverModel" ⟨"IdealProverModel", "scaled", "(III)V"⟩ ⟨"IdealProverModel", "scaled", "(III)V"⟩ ∈ jm_tb := jm_in 38 (by decide +kernel) rfl
theorem wd_39 : Cond.selects "IdealProverModel" ⟨"IdealProverModel", "addPairs", "(I)V"⟩ ⟨"IdealProverModel", "addPairs", "(I)V"⟩ ∈ jm_tb := jm_in 39 (by decide +kernel) rfl
theorem wd_40 : Cond.selects "IdealProverModel" ⟨"IdealProverModel", "onePair", "()Z"⟩ ⟨"IdealProverModel", "onePair", "()Z"⟩ ∈ jm_tb := jm_in 40 (by decide +kernel) rfl
theorem wd_41 : Cond.selects "IdealProverModel" ⟨"IdealProverModel", "lead", "(I)I"⟩ ⟨"IdealProverModel", "lead", "(I)I"⟩ ∈ jm_tb := jm_in 41 (by decide +kernel) rfl
theorem wd_42 : Cond.selects "IdealProverModel" ⟨"IdealProverModel", "common", "(II)I"⟩ ⟨"IdealProverModel", "common", "(II)I"⟩ ∈ jm_tb := jm_in 42 (by decide +kernel) rfl
theorem wd_43 : Cond.selects "IdealProverModel" ⟨"IdealProverModel", "isPassed", "(III)Z"⟩ ⟨"IdealProverModel", "isPassed", "(III)Z"⟩ ∈ jm_tb := jm_in 43 (by decide +kernel) rfl
theorem wd_44 : Cond.selects "IdealProverModel" ⟨"IdealProverModel", "divides", "(II)Z"⟩ ⟨"IdealProverModel", "divides", "(II)Z"⟩ ∈ jm_tb := jm_in 44 (by decide +kernel) rfl
theorem wd_45 : Cond.selects "IdealProverModel" ⟨"IdealProverModel", "isWaiting", "(II)Z"⟩ ⟨"IdealProverModel", "isWaiting", "(II)Z"⟩ ∈ jm_tb := jm_in 45 (by decide +kernel) rfl
theorem wd_46 : Cond.selects "IdealProverModel" ⟨"IdealProverModel", "divided", "(II)V"⟩ ⟨"IdealProverModel", "divided", "(II)V"⟩ ∈ jm_tb := jm_in 46 (by decide +kernel) rfl
theorem wd_47 : Cond.selects "IdealProverModel" ⟨"IdealProverModel", "lessShares", "(III)V"⟩ ⟨"IdealProverModel", "lessShares", "(III)V"⟩ ∈ jm_tb := jm_in 47 (by decide +kernel) rfl
theorem wd_48 : Cond.selects "IdealProverModel" ⟨"IdealProverModel", "clean", "()V"⟩ ⟨"IdealProverModel", "clean", "()V"⟩ ∈ jm_tb := jm_in 48 (by decide +kernel) rfl
theorem wd_49 : Cond.selects "IdealProverModel" ⟨"IdealProverModel", "move", "(II)V"⟩ ⟨"IdealProverModel", "move", "(II)V"⟩ ∈ jm_tb := jm_in 49 (by decide +kernel) rfl
theorem wd_50 : Cond.selects "IdealProverModel" ⟨"IdealProverModel", "reduce", "(I)V"⟩ ⟨"IdealProverModel", "reduce", "(I)V"⟩ ∈ jm_tb := jm_in 50 (by decide +kernel) rfl
theorem wd_51 : Cond.selects "IdealProverModel" ⟨"IdealProverModel", "own", "()V"⟩ ⟨"IdealProverModel", "own", "()V"⟩ ∈ jm_tb := jm_in 51 (by decide +kernel) rfl
theorem wd_52 : Cond.selects "IdealProverModel" ⟨"IdealProverModel", "isStair", "(I)Z"⟩ ⟨"IdealProverModel", "isStair", "(I)Z"⟩ ∈ jm_tb := jm_in 52 (by decide +kernel) rfl
theorem wd_53 : Cond.initialized "IdealProverLaw" ∈ jm_tb := jm_in 53 (by decide +kernel) rfl
theorem wd_54 : Cond.initialized "IdealProver" ∈ jm_tb := jm_in 54 (by decide +kernel) rfl
theorem wd_56 : Cond.initialized "IdealProver$Order" ∈ jm_tb := jm_in 56 (by decide +kernel) rfl
theorem wd_57 : Cond.initialized "IdealProver$Poly" ∈ jm_tb := jm_in 57 (by decide +kernel) rfl
theorem wd_58 : Cond.initialized "IdealProver$Engine" ∈ jm_tb := jm_in 58 (by decide +kernel) rfl
theorem wd_59 : Cond.initialized "IdealProver$Fraction" ∈ jm_tb := jm_in 59 (by decide +kernel) rfl
theorem wd_60 : Cond.initialized "IdealProver$Element" ∈ jm_tb := jm_in 60 (by decide +kernel) rfl
theorem wd_61 : Cond.initialized "java/lang/Math" ∈ jm_tb := jm_in 61 (by decide +kernel) rfl
theorem wd_62 : Cond.initialized "IdealProverModel" ∈ jm_tb := jm_in 62 (by decide +kernel) rfl
theorem wd_63 : Cond.initialized "java/lang/System" ∈ jm_tb := jm_in 63 (by decide +kernel) rfl
theorem wd_67 : Cond.classLink "IdealProverLaw" 7 "IdealProver" ∈ jm_tb := jm_in 67 (by decide +kernel) rfl
theorem wd_68 : Cond.instantiable "IdealProver" 15 ∈ jm_tb := jm_in 68 (by decide +kernel) rfl
theorem wd_69 : Cond.methodLink "IdealProverLaw" 15 ⟨"IdealProver", "<init>", "(I)V"⟩ ∈ jm_tb := jm_in 69 (by decide +kernel) rfl
theorem wd_70 : Cond.instanceMethod ⟨"IdealProver", "<init>", "(I)V"⟩ ∈ jm_tb := jm_in 70 (by decide +kernel) rfl
theorem wd_72 : Cond.methodLink "IdealProver" 25 ⟨"java/lang/Object", "<init>", "()V"⟩ ∈ jm_tb := jm_in 72 (by decide +kernel) rfl
theorem wd_73 : Cond.instanceMethod ⟨"java/lang/Object", "<init>", "()V"⟩ ∈ jm_tb := jm_in 73 (by decide +kernel) rfl
theorem wd_74 : Cond.code Lib.objectInit ⟨#[0xb1]⟩ 1 none ∈ jm_tb := jm_in 74 (by decide +kernel) rfl
theorem wd_75 : Cond.methodLink "IdealProver" 28 ⟨"IdealProver$Order", "values", "()[LIdealProver$Order;"⟩ ∈ jm_tb := jm_in 75 (by decide +kernel) rfl
theorem wd_76 : Cond.static ⟨"IdealProver$Order", "values", "()[LIdealProver$Order;"⟩ ∈ jm_tb := jm_in 76 (by decide +kernel) rfl
theorem wd_88 : Cond.methodLink "IdealProver" 38 ⟨"IdealProver", "polys", "(I)[LIdealProver$Poly;"⟩ ∈ jm_tb := jm_in 88 (by decide +kernel) rfl
theorem wd_89 : Cond.static ⟨"IdealProver", "polys", "(I)[LIdealProver$Poly;"⟩ ∈ jm_tb := jm_in 89 (by decide +kernel) rfl
theorem wd_91 : Cond.classLink "IdealProver" 19 "IdealProver$Poly" ∈ jm_tb := jm_in 91 (by decide +kernel) rfl
theorem wd_92 : Cond.arrayOver (.object "IdealProver$Poly") ∈ jm_tb := jm_in 92 (by decide +kernel) rfl
theorem wd_93 : Cond.instantiable "IdealProver$Poly" 4 ∈ jm_tb := jm_in 93 (by decide +kernel) rfl
theorem wd_94 : Cond.methodLinkNest "IdealProver" 21 ⟨"IdealProver$Poly", "<init>", "()V"⟩ "IdealProver" ∈ jm_tb := jm_in 94 (by decide +kernel) rfl
theorem wd_95 : Cond.instanceMethod ⟨"IdealProver$Poly", "<init>", "()V"⟩ ∈ jm_tb := jm_in 95 (by decide +kernel) rfl
theorem wd_97 : Cond.methodLink "IdealProver$Poly" 3 ⟨"java/lang/Object", "<init>", "()V"⟩ ∈ jm_tb := jm_in 97 (by decide +kernel) rfl
theorem wd_98 : Cond.fieldLink "IdealProver$Poly" 21 "IdealProver$Poly" "size" "I" ∈ jm_tb := jm_in 98 (by decide +kernel) rfl
theorem wd_99 : Cond.fieldLinkNest "IdealProver$Engine" 84 "IdealProver$Poly" "size" "I" "IdealProver" ∈ jm_tb := jm_in 99 (by decide +kernel) rfl
theorem wd_100 : Cond.fieldLinkNest "IdealProver" 96 "IdealProver$Poly" "size" "I" "IdealProver" ∈ jm_tb := jm_in 100 (by decide +kernel) rfl
theorem wd_101 : Cond.fieldLink "IdealProver$Poly" 9 "IdealProver$Poly" "over" "[I" ∈ jm_tb := jm_in 101 (by decide +kernel) rfl
theorem wd_102 : Cond.fieldLinkNest "IdealProver$Element" 30 "IdealProver$Poly" "over" "[I" "IdealProver" ∈ jm_tb := jm_in 102 (by decide +kernel) rfl
theorem wd_103 : Cond.fieldLinkNest "IdealProver$Engine" 129 "IdealProver$Poly" "over" "[I" "IdealProver" ∈ jm_tb := jm_in 103 (by decide +kernel) rfl
theorem wd_104 : Cond.fieldLinkNest "IdealProver" 143 "IdealProver$Poly" "over" "[I" "IdealProver" ∈ jm_tb := jm_in 104 (by decide +kernel) rfl
theorem wd_105 : Cond.fieldLink "IdealProver$Poly" 15 "IdealProver$Poly" "under" "[I" ∈ jm_tb := jm_in 105 (by decide +kernel) rfl
theorem wd_106 : Cond.fieldLinkNest "IdealProver$Element" 26 "IdealProver$Poly" "under" "[I" "IdealProver" ∈ jm_tb := jm_in 106 (by decide +kernel) rfl
theorem wd_107 : Cond.fieldLinkNest "IdealProver$Engine" 132 "IdealProver$Poly" "under" "[I" "IdealProver" ∈ jm_tb := jm_in 107 (by decide +kernel) rfl
theorem wd_108 : Cond.fieldLinkNest "IdealProver" 145 "IdealProver$Poly" "under" "[I" "IdealProver" ∈ jm_tb := jm_in 108 (by decide +kernel) rfl
theorem wd_109 : Cond.fieldLink "IdealProver$Poly" 18 "IdealProver$Poly" "mono" "[I" ∈ jm_tb := jm_in 109 (by decide +kernel) rfl
theorem wd_110 : Cond.fieldLinkNest "IdealProver$Engine" 108 "IdealProver$Poly" "mono" "[I" "IdealProver" ∈ jm_tb := jm_in 110 (by decide +kernel) rfl
theorem wd_111 : Cond.fieldLinkNest "IdealProver" 147 "IdealProver$Poly" "mono" "[I" "IdealProver" ∈ jm_tb := jm_in 111 (by decide +kernel) rfl
theorem wd_121 : Cond.arrayClass .int ∈ jm_tb := jm_in 121 (by decide +kernel) rfl
theorem wd_122 : Cond.classLink "IdealProver" 49 "IdealProver$Engine" ∈ jm_tb := jm_in 122 (by decide +kernel) rfl
theorem wd_123 : Cond.instantiable "IdealProver$Engine" 17 ∈ jm_tb := jm_in 123 (by decide +kernel) rfl
theorem wd_124 : Cond.methodLink "IdealProver" 51 ⟨"IdealProver$Engine", "<init>", "(I)V"⟩ ∈ jm_tb := jm_in 124 (by decide +kernel) rfl
theorem wd_125 : Cond.instanceMethod ⟨"IdealProver$Engine", "<init>", "(I)V"⟩ ∈ jm_tb := jm_in 125 (by decide +kernel) rfl
theorem wd_127 : Cond.methodLink "IdealProver$Engine" 3 ⟨"java/lang/Object", "<init>", "()V"⟩ ∈ jm_tb := jm_in 127 (by decide +kernel) rfl
theorem wd_128 : Cond.classLink "IdealProver$Engine" 9 "IdealProver$Fraction" ∈ jm_tb := jm_in 128 (by decide +kernel) rfl
theorem wd_129 : Cond.instantiable "IdealProver$Fraction" 2 ∈ jm_tb := jm_in 129 (by decide +kernel) rfl
theorem wd_130 : Cond.methodLinkNest "IdealProver$Engine" 11 ⟨"IdealProver$Fraction", "<init>", "()V"⟩ "IdealProver" ∈ jm_tb := jm_in 130 (by decide +kernel) rfl
theorem wd_131 : Cond.instanceMethod ⟨"IdealProver$Fraction", "<init>", "()V"⟩ ∈ jm_tb := jm_in 131 (by decide +kernel) rfl
theorem wd_133 : Cond.methodLink "IdealProver$Fraction" 3 ⟨"java/lang/Object", "<init>", "()V"⟩ ∈ jm_tb := jm_in 133 (by decide +kernel) rfl
theorem wd_134 : Cond.fieldLink "IdealProver$Fraction" 26 "IdealProver$Fraction" "over" "I" ∈ jm_tb := jm_in 134 (by decide +kernel) rfl
theorem wd_135 : Cond.fieldLinkNest "IdealProver$Poly" 51 "IdealProver$Fraction" "over" "I" "IdealProver" ∈ jm_tb := jm_in 135 (by decide +kernel) rfl
theorem wd_136 : Cond.fieldLinkNest "IdealProver$Engine" 150 "IdealProver$Fraction" "over" "I" "IdealProver" ∈ jm_tb := jm_in 136 (by decide +kernel) rfl
theorem wd_137 : Cond.fieldLinkNest "IdealProver" 124 "IdealProver$Fraction" "over" "I" "IdealProver" ∈ jm_tb := jm_in 137 (by decide +kernel) rfl
theorem wd_138 : Cond.fieldLink "IdealProver$Fraction" 32 "IdealProver$Fraction" "under" "I" ∈ jm_tb := jm_in 138 (by decide +kernel) rfl
theorem wd_139 : Cond.fieldLinkNest "IdealProver$Poly" 56 "IdealProver$Fraction" "under" "I" "IdealProver" ∈ jm_tb := jm_in 139 (by decide +kernel) rfl
theorem wd_140 : Cond.fieldLinkNest "IdealProver$Engine" 152 "IdealProver$Fraction" "under" "I" "IdealProver" ∈ jm_tb := jm_in 140 (by decide +kernel) rfl
theorem wd_141 : Cond.fieldLinkNest "IdealProver" 127 "IdealProver$Fraction" "under" "I" "IdealProver" ∈ jm_tb := jm_in 141 (by decide +kernel) rfl
theorem wd_147 : Cond.classLink "IdealProver$Engine" 18 "IdealProver$Element" ∈ jm_tb := jm_in 147 (by decide +kernel) rfl
theorem wd_148 : Cond.arrayOver (.object "IdealProver$Element") ∈ jm_tb := jm_in 148 (by decide +kernel) rfl
theorem wd_149 : Cond.methodLinkNest "IdealProver$Engine" 28 ⟨"IdealProver", "polys", "(I)[LIdealProver$Poly;"⟩ "IdealProver" ∈ jm_tb := jm_in 149 (by decide +kernel) rfl
theorem wd_150 : Cond.classLink "IdealProver$Engine" 36 "IdealProver$Poly" ∈ jm_tb := jm_in 150 (by decide +kernel) rfl
theorem wd_151 : Cond.methodLinkNest "IdealProver$Engine" 38 ⟨"IdealProver$Poly", "<init>", "()V"⟩ "IdealProver" ∈ jm_tb := jm_in 151 (by decide +kernel) rfl
theorem wd_152 : Cond.instantiable "IdealProver$Element" 2 ∈ jm_tb := jm_in 152 (by decide +kernel) rfl
theorem wd_153 : Cond.methodLink "IdealProver$Engine" 56 ⟨"IdealProver$Element", "<init>", "(I)V"⟩ ∈ jm_tb := jm_in 153 (by decide +kernel) rfl
theorem wd_154 : Cond.instanceMethod ⟨"IdealProver$Element", "<init>", "(I)V"⟩ ∈ jm_tb := jm_in 154 (by decide +kernel) rfl
theorem wd_156 : Cond.methodLink "IdealProver$Element" 1 ⟨"java/lang/Object", "<init>", "()V"⟩ ∈ jm_tb := jm_in 156 (by decide +kernel) rfl
theorem wd_157 : Cond.classLink "IdealProver$Element" 7 "IdealProver$Poly" ∈ jm_tb := jm_in 157 (by decide +kernel) rfl
theorem wd_158 : Cond.methodLinkNest "IdealProver$Element" 9 ⟨"IdealProver$Poly", "<init>", "()V"⟩ "IdealProver" ∈ jm_tb := jm_in 158 (by decide +kernel) rfl
theorem wd_159 : Cond.methodLinkNest "IdealProver$Element" 16 ⟨"IdealProver", "polys", "(I)[LIdealProver$Poly;"⟩ "IdealProver" ∈ jm_tb := jm_in 159 (by decide +kernel) rfl
theorem wd_160 : Cond.fieldLink "IdealProver$Element" 10 "IdealProver$Element" "poly" "LIdealProver$Poly;" ∈ jm_tb := jm_in 160 (by decide +kernel) rfl
theorem wd_161 : Cond.fieldLinkNest "IdealProver$Engine" 87 "IdealProver$Element" "poly" "LIdealProver$Poly;" "IdealProver" ∈ jm_tb := jm_in 161 (by decide +kernel) rfl
theorem wd_162 : Cond.fieldLinkNest "IdealProver" 213 "IdealProver$Element" "poly" "LIdealProver$Poly;" "IdealProver" ∈ jm_tb := jm_in 162 (by decide +kernel) rfl
theorem wd_163 : Cond.fieldLink "IdealProver$Element" 22 "IdealProver$Element" "shares" "[LIdealProver$Poly;" ∈ jm_tb := jm_in 163 (by decide +kernel) rfl
theorem wd_164 : Cond.fieldLinkNest "IdealProver$Engine" 94 "IdealProver$Element" "shares" "[LIdealProver$Poly;" "IdealProver" ∈ jm_tb := jm_in 164 (by decide +kernel) rfl
theorem wd_165 : Cond.fieldLinkNest "IdealProver" 218 "IdealProver$Element" "shares" "[LIdealProver$Poly;" "IdealProver" ∈ jm_tb := jm_in 165 (by decide +kernel) rfl
theorem wd_171 : Cond.arrayClass .boolean ∈ jm_tb := jm_in 171 (by decide +kernel) rfl
theorem wd_172 : Cond.fieldLink "IdealProver$Engine" 12 "IdealProver$Engine" "x" "LIdealProver$Fraction;" ∈ jm_tb := jm_in 172 (by decide +kernel) rfl
theorem wd_173 : Cond.fieldLink "IdealProver$Engine" 20 "IdealProver$Engine" "elements" "[LIdealProver$Element;" ∈ jm_tb := jm_in 173 (by decide +kernel) rfl
theorem wd_174 : Cond.fieldLinkNest "IdealProver" 209 "IdealProver$Engine" "elements" "[LIdealProver$Element;" "IdealProver" ∈ jm_tb := jm_in 174 (by decide +kernel) rfl
theorem wd_175 : Cond.fieldLink "IdealProver$Engine" 24 "IdealProver$Engine" "waits" "[Z" ∈ jm_tb := jm_in 175 (by decide +kernel) rfl
theorem wd_176 : Cond.fieldLink "IdealProver$Engine" 32 "IdealProver$Engine" "quotients" "[LIdealProver$Poly;" ∈ jm_tb := jm_in 176 (by decide +kernel) rfl
theorem wd_177 : Cond.fieldLinkNest "IdealProver" 233 "IdealProver$Engine" "quotients" "[LIdealProver$Poly;" "IdealProver" ∈ jm_tb := jm_in 177 (by decide +kernel) rfl
theorem wd_178 : Cond.fieldLink "IdealProver$Engine" 39 "IdealProver$Engine" "rest" "LIdealProver$Poly;" ∈ jm_tb := jm_in 178 (by decide +kernel) rfl
theorem wd_179 : Cond.fieldLinkNest "IdealProver" 230 "IdealProver$Engine" "rest" "LIdealProver$Poly;" "IdealProver" ∈ jm_tb := jm_in 179 (by decide +kernel) rfl
theorem wd_180 : Cond.fieldLink "IdealProver$Engine" 43 "IdealProver$Engine" "work" "LIdealProver$Poly;" ∈ jm_tb := jm_in 180 (by decide +kernel) rfl
theorem wd_181 : Cond.fieldLinkNest "IdealProver" 224 "IdealProver$Engine" "work" "LIdealProver$Poly;" "IdealProver" ∈ jm_tb := jm_in 181 (by decide +kernel) rfl
theorem wd_182 : Cond.fieldLink "IdealProver$Engine" 46 "IdealProver$Engine" "sum" "LIdealProver$Poly;" ∈ jm_tb := jm_in 182 (by decide +kernel) rfl
theorem wd_183 : Cond.fieldLink "IdealProver$Engine" 52 "IdealProver$Engine" "most" "I" ∈ jm_tb := jm_in 183 (by decide +kernel) rfl
theorem wd_184 : Cond.fieldLink "IdealProver$Engine" 59 "IdealProver$Engine" "order" "LIdealProver$Order;" ∈ jm_tb := jm_in 184 (by decide +kernel) rfl
theorem wd_185 : Cond.fieldLink "IdealProver$Engine" 66 "IdealProver$Engine" "many" "I" ∈ jm_tb := jm_in 185 (by decide +kernel) rfl
theorem wd_186 : Cond.fieldLink "IdealProver$Engine" 69 "IdealProver$Engine" "count" "I" ∈ jm_tb := jm_in 186 (by decide +kernel) rfl
theorem wd_187 : Cond.fieldLinkNest "IdealProver" 191 "IdealProver$Engine" "count" "I" "IdealProver" ∈ jm_tb := jm_in 187 (by decide +kernel) rfl
theorem wd_188 : Cond.fieldLink "IdealProver$Engine" 72 "IdealProver$Engine" "steps" "I" ∈ jm_tb := jm_in 188 (by decide +kernel) rfl
theorem wd_189 : Cond.fieldLinkNest "IdealProver" 194 "IdealProver$Engine" "steps" "I" "IdealProver" ∈ jm_tb := jm_in 189 (by decide +kernel) rfl
theorem wd_190 : Cond.fieldLink "IdealProver$Engine" 63 "IdealProver$Engine" "limit" "I" ∈ jm_tb := jm_in 190 (by decide +kernel) rfl
theorem wd_191 : Cond.fieldLinkNest "IdealProver" 221 "IdealProver$Engine" "limit" "I" "IdealProver" ∈ jm_tb := jm_in 191 (by decide +kernel) rfl
theorem wd_192 : Cond.fieldLink "IdealProver$Engine" 75 "IdealProver$Engine" "pairs" "I" ∈ jm_tb := jm_in 192 (by decide +kernel) rfl
theorem wd_193 : Cond.fieldLinkNest "IdealProver" 197 "IdealProver$Engine" "pairs" "I" "IdealProver" ∈ jm_tb := jm_in 193 (by decide +kernel) rfl
theorem wd_194 : Cond.fieldLink "IdealProver$Engine" 78 "IdealProver$Engine" "passed" "I" ∈ jm_tb := jm_in 194 (by decide +kernel) rfl
theorem wd_195 : Cond.fieldLinkNest "IdealProver" 200 "IdealProver$Engine" "passed" "I" "IdealProver" ∈ jm_tb := jm_in 195 (by decide +kernel) rfl
theorem wd_196 : Cond.fieldLink "IdealProver$Engine" 81 "IdealProver$Engine" "before" "I" ∈ jm_tb := jm_in 196 (by decide +kernel) rfl
theorem wd_197 : Cond.fieldLinkNest "IdealProver" 203 "IdealProver$Engine" "before" "I" "IdealProver" ∈ jm_tb := jm_in 197 (by decide +kernel) rfl
theorem wd_198 : Cond.fieldLink "IdealProver$Engine" 49 "IdealProver$Engine" "gone" "[Z" ∈ jm_tb := jm_in 198 (by decide +kernel) rfl
theorem wd_234 : Cond.classLink "IdealProver" 61 "IdealProver$Fraction" ∈ jm_tb := jm_in 234 (by decide +kernel) rfl
theorem wd_235 : Cond.methodLinkNest "IdealProver" 63 ⟨"IdealProver$Fraction", "<init>", "()V"⟩ "IdealProver" ∈ jm_tb := jm_in 235 (by decide +kernel) rfl
theorem wd_236 : Cond.methodLink "IdealProver" 82 ⟨"java/lang/Math", "min", "(II)I"⟩ ∈ jm_tb := jm_in 236 (by decide +kernel) rfl
theorem wd_237 : Cond.static ⟨"java/lang/Math", "min", "(II)I"⟩ ∈ jm_tb := jm_in 237 (by decide +kernel) rfl
theorem wd_238 : Cond.code Lib.Math.min.name Lib.Math.min.code 2 (some .int) ∈ jm_tb := jm_in 238 (by decide +kernel) rfl
theorem wd_239 : Cond.methodLink "IdealProver" 7 ⟨"java/lang/Math", "max", "(II)I"⟩ ∈ jm_tb := jm_in 239 (by decide +kernel) rfl
theorem wd_240 : Cond.static ⟨"java/lang/Math", "max", "(II)I"⟩ ∈ jm_tb := jm_in 240 (by decide +kernel) rfl
theorem wd_241 : Cond.code Lib.Math.max.name Lib.Math.max.code 2 (some .int) ∈ jm_tb := jm_in 241 (by decide +kernel) rfl
theorem wd_242 : Cond.fieldLink "IdealProver" 85 "IdealProver" "variables" "I" ∈ jm_tb := jm_in 242 (by decide +kernel) rfl
theorem wd_243 : Cond.fieldLink "IdealProver" 34 "IdealProver" "orders" "[LIdealProver$Order;" ∈ jm_tb := jm_in 243 (by decide +kernel) rfl
theorem wd_244 : Cond.fieldLink "IdealProver" 89 "IdealProver" "kind" "I" ∈ jm_tb := jm_in 244 (by decide +kernel) rfl
theorem wd_245 : Cond.fieldLink "IdealProver" 42 "IdealProver" "places" "[LIdealProver$Poly;" ∈ jm_tb := jm_in 245 (by decide +kernel) rfl
theorem wd_246 : Cond.fieldLink "IdealProver" 46 "IdealProver" "generators" "[LIdealProver$Poly;" ∈ jm_tb := jm_in 246 (by decide +kernel) rfl
theorem wd_247 : Cond.fieldLink "IdealProver" 111 "IdealProver" "generatorCount" "I" ∈ jm_tb := jm_in 247 (by decide +kernel) rfl
theorem wd_248 : Cond.fieldLink "IdealProver" 54 "IdealProver" "engine" "LIdealProver$Engine;" ∈ jm_tb := jm_in 248 (by decide +kernel) rfl
theorem wd_249 : Cond.fieldLink "IdealProver" 58 "IdealProver" "other" "LIdealProver$Engine;" ∈ jm_tb := jm_in 249 (by decide +kernel) rfl
theorem wd_250 : Cond.fieldLink "IdealProver" 99 "IdealProver" "hasBasis" "Z" ∈ jm_tb := jm_in 250 (by decide +kernel) rfl
theorem wd_251 : Cond.fieldLink "IdealProver" 177 "IdealProver" "hasQuotients" "Z" ∈ jm_tb := jm_in 251 (by decide +kernel) rfl
theorem wd_252 : Cond.fieldLink "IdealProver" 64 "IdealProver" "x" "LIdealProver$Fraction;" ∈ jm_tb := jm_in 252 (by decide +kernel) rfl
theorem wd_253 : Cond.fieldLink "IdealProver" 68 "IdealProver" "made" "LIdealProver$Poly;" ∈ jm_tb := jm_in 253 (by decide +kernel) rfl
theorem wd_254 : Cond.fieldLink "IdealProver" 72 "IdealProver" "product" "LIdealProver$Poly;" ∈ jm_tb := jm_in 254 (by decide +kernel) rfl
theorem wd_255 : Cond.fieldLink "IdealProver" 75 "IdealProver" "kept" "[LIdealProver$Poly;" ∈ jm_tb := jm_in 255 (by decide +kernel) rfl
theorem wd_256 : Cond.fieldLink "IdealProver" 78 "IdealProver" "box" "[I" ∈ jm_tb := jm_in 256 (by decide +kernel) rfl
theorem wd_288 : Cond.methodLink "IdealProverLaw" 21 ⟨"IdealProver", "variables", "()I"⟩ ∈ jm_tb := jm_in 288 (by decide +kernel) rfl
theorem wd_289 : Cond.instanceMethod ⟨"IdealProver", "variables", "()I"⟩ ∈ jm_tb := jm_in 289 (by decide +kernel) rfl
theorem wd_290 : Cond.selects "IdealProver" ⟨"IdealProver", "variables", "()I"⟩ ⟨"IdealProver", "variables", "()I"⟩ ∈ jm_tb := jm_in 290 (by decide +kernel) rfl
theorem wd_292 : Cond.methodLink "IdealProverLaw" 26 ⟨"IdealProver", "order", "(I)I"⟩ ∈ jm_tb := jm_in 292 (by decide +kernel) rfl
theorem wd_293 : Cond.instanceMethod ⟨"IdealProver", "order", "(I)I"⟩ ∈ jm_tb := jm_in 293 (by decide +kernel) rfl
theorem wd_294 : Cond.selects "IdealProver" ⟨"IdealProver", "order", "(I)I"⟩ ⟨"IdealProver", "order", "(I)I"⟩ ∈ jm_tb := jm_in 294 (by decide +kernel) rfl
theorem wd_296 : Cond.methodLink "IdealProver" 103 ⟨"IdealProver", "order", "()LIdealProver$Order;"⟩ ∈ jm_tb := jm_in 296 (by decide +kernel) rfl
theorem wd_298 : Cond.instanceMethod ⟨"IdealProver", "order", "()LIdealProver$Order;"⟩ ∈ jm_tb := jm_in 298 (by decide +kernel) rfl
theorem wd_300 : Cond.methodLink "IdealProver" 107 ⟨"IdealProver$Poly", "sort", "(LIdealProver$Order;)V"⟩ ∈ jm_tb := jm_in 300 (by decide +kernel) rfl
theorem wd_301 : Cond.instanceMethod ⟨"IdealProver$Poly", "sort", "(LIdealProver$Order;)V"⟩ ∈ jm_tb := jm_in 301 (by decide +kernel) rfl
theorem wd_302 : Cond.selects "IdealProver$Poly" ⟨"IdealProver$Poly", "sort", "(LIdealProver$Order;)V"⟩ ⟨"IdealProver$Poly", "sort", "(LIdealProver$Order;)V"⟩ ∈ jm_tb := jm_in 302 (by decide +kernel) rfl
theorem wd_304 : Cond.methodLink "IdealProver$Poly" 36 ⟨"IdealProver$Order", "compare", "(II)I"⟩ ∈ jm_tb := jm_in 304 (by decide +kernel) rfl
theorem wd_305 : Cond.declares ⟨"IdealProver$Order", "compare", "(II)I"⟩ ∈ jm_tb := jm_in 305 (by decide +kernel) rfl
theorem wd_306 : Cond.sameMethod "IdealProver$Order" "IdealProver$Order" "compare" "(II)I" ∈ jm_tb := jm_in 306 (by decide +kernel) rfl
theorem wd_307 : Cond.selects "IdealProver$Order$1" ⟨"IdealProver$Order", "compare", "(II)I"⟩ ⟨"IdealProver$Order$1", "compare", "(II)I"⟩ ∈ jm_tb := jm_in 307 (by decide +kernel) rfl
theorem wd_308 : Cond.instanceMethod ⟨"IdealProver$Order$1", "compare", "(II)I"⟩ ∈ jm_tb := jm_in 308 (by decide +kernel) rfl
theorem wd_310 : Cond.selects "IdealProver$Order$2" ⟨"IdealProver$Order", "compare", "(II)I"⟩ ⟨"IdealProver$Order$2", "compare", "(II)I"⟩ ∈ jm_tb := jm_in 310 (by decide +kernel) rfl
theorem wd_311 : Cond.instanceMethod ⟨"IdealProver$Order$2", "compare", "(II)I"⟩ ∈ jm_tb := jm_in 311 (by decide +kernel) rfl
theorem wd_313 : Cond.methodLinkNest "IdealProver$Order$2" 7 ⟨"IdealProver$Order", "bySum", "(II)I"⟩ "IdealProver" ∈ jm_tb := jm_in 313 (by decide +kernel) rfl
theorem wd_314 : Cond.static ⟨"IdealProver$Order", "bySum", "(II)I"⟩ ∈ jm_tb := jm_in 314 (by decide +kernel) rfl
theorem wd_316 : Cond.methodLinkNest "IdealProver$Order" 32 ⟨"IdealProver", "exponent", "(II)I"⟩ "IdealProver" ∈ jm_tb := jm_in 316 (by decide +kernel) rfl
theorem wd_317 : Cond.static ⟨"IdealProver", "exponent", "(II)I"⟩ ∈ jm_tb := jm_in 317 (by decide +kernel) rfl
theorem wd_319 : Cond.selects "IdealProver$Order$3" ⟨"IdealProver$Order", "compare", "(II)I"⟩ ⟨"IdealProver$Order$3", "compare", "(II)I"⟩ ∈ jm_tb := jm_in 319 (by decide +kernel) rfl
theorem wd_320 : Cond.instanceMethod ⟨"IdealProver$Order$3", "compare", "(II)I"⟩ ∈ jm_tb := jm_in 320 (by decide +kernel) rfl
theorem wd_322 : Cond.methodLinkNest "IdealProver$Order$3" 7 ⟨"IdealProver", "exponent", "(II)I"⟩ "IdealProver" ∈ jm_tb := jm_in 322 (by decide +kernel) rfl
theorem wd_323 : Cond.methodLinkNest "IdealProver$Order$3" 13 ⟨"IdealProver$Order", "bySum", "(II)I"⟩ "IdealProver" ∈ jm_tb := jm_in 323 (by decide +kernel) rfl
theorem wd_324 : Cond.methodLink "IdealProverLaw" 31 ⟨"IdealProver", "term", "(IIII)I"⟩ ∈ jm_tb := jm_in 324 (by decide +kernel) rfl
theorem wd_325 : Cond.instanceMethod ⟨"IdealProver", "term", "(IIII)I"⟩ ∈ jm_tb := jm_in 325 (by decide +kernel) rfl
theorem wd_326 : Cond.selects "IdealProver" ⟨"IdealProver", "term", "(IIII)I"⟩ ⟨"IdealProver", "term", "(IIII)I"⟩ ∈ jm_tb := jm_in 326 (by decide +kernel) rfl
theorem wd_329 : Cond.methodLink "IdealProver" 114 ⟨"IdealProver", "isPlace", "(I)Z"⟩ ∈ jm_tb := jm_in 329 (by decide +kernel) rfl
theorem wd_330 : Cond.static ⟨"IdealProver", "isPlace", "(I)Z"⟩ ∈ jm_tb := jm_in 330 (by decide +kernel) rfl
theorem wd_332 : Cond.methodLink "IdealProver" 15 ⟨"java/lang/Math", "abs", "(J)J"⟩ ∈ jm_tb := jm_in 332 (by decide +kernel) rfl
theorem wd_333 : Cond.static ⟨"java/lang/Math", "abs", "(J)J"⟩ ∈ jm_tb := jm_in 333 (by decide +kernel) rfl
theorem wd_334 : Cond.code Lib.MathLoose.abs_long.x Lib.MathLoose.abs_long.code 2 (some .long) ∈ jm_tb := jm_in 334 (by decide +kernel) rfl
theorem wd_335 : Cond.constantLong "IdealProver" 118 (1000000000) ∈ jm_tb := jm_in 335 (by decide +kernel) rfl
theorem wd_336 : Cond.methodLink "IdealProver" 12 ⟨"IdealProver", "power", "(II)I"⟩ ∈ jm_tb := jm_in 336 (by decide +kernel) rfl
theorem wd_337 : Cond.static ⟨"IdealProver", "power", "(II)I"⟩ ∈ jm_tb := jm_in 337 (by decide +kernel) rfl
theorem wd_339 : Cond.methodLink "IdealProver" 92 ⟨"IdealProver$Poly", "become", "(LIdealProver$Poly;)V"⟩ ∈ jm_tb := jm_in 339 (by decide +kernel) rfl
theorem wd_340 : Cond.instanceMethod ⟨"IdealProver$Poly", "become", "(LIdealProver$Poly;)V"⟩ ∈ jm_tb := jm_in 340 (by decide +kernel) rfl
theorem wd_341 : Cond.selects "IdealProver$Poly" ⟨"IdealProver$Poly", "become", "(LIdealProver$Poly;)V"⟩ ⟨"IdealProver$Poly", "become", "(LIdealProver$Poly;)V"⟩ ∈ jm_tb := jm_in 341 (by decide +kernel) rfl
theorem wd_343 : Cond.methodLink "IdealProver$Poly" 25 ⟨"java/lang/System", "arraycopy", "(Ljava/lang/Object;ILjava/lang/Object;II)V"⟩ ∈ jm_tb := jm_in 343 (by decide +kernel) rfl
theorem wd_344 : Cond.static ⟨"java/lang/System", "arraycopy", "(Ljava/lang/Object;ILjava/lang/Object;II)V"⟩ ∈ jm_tb := jm_in 344 (by decide +kernel) rfl
theorem wd_345 : Cond.native ⟨"java/lang/System", "arraycopy", "(Ljava/lang/Object;ILjava/lang/Object;II)V"⟩ ∈ jm_tb := jm_in 345 (by decide +kernel) rfl
theorem wd_346 : Cond.methodLinkNest "IdealProver" 120 ⟨"IdealProver$Fraction", "set", "(JJ)V"⟩ "IdealProver" ∈ jm_tb := jm_in 346 (by decide +kernel) rfl
theorem wd_348 : Cond.instanceMethod ⟨"IdealProver$Fraction", "set", "(JJ)V"⟩ ∈ jm_tb := jm_in 348 (by decide +kernel) rfl
theorem wd_350 : Cond.methodLinkNest "IdealProver$Fraction" 9 ⟨"IdealProver", "gcd", "(JJ)J"⟩ "IdealProver" ∈ jm_tb := jm_in 350 (by decide +kernel) rfl
theorem wd_351 : Cond.static ⟨"IdealProver", "gcd", "(JJ)J"⟩ ∈ jm_tb := jm_in 351 (by decide +kernel) rfl
theorem wd_353 : Cond.methodLink "IdealProver$Fraction" 13 ⟨"java/lang/Math", "abs", "(J)J"⟩ ∈ jm_tb := jm_in 353 (by decide +kernel) rfl
theorem wd_354 : Cond.constantLong "IdealProver$Fraction" 19 (1000000000) ∈ jm_tb := jm_in 354 (by decide +kernel) rfl
theorem wd_355 : Cond.classLink "IdealProver$Fraction" 21 "IdealProver$Stop" ∈ jm_tb := jm_in 355 (by decide +kernel) rfl
theorem wd_392 : Cond.methodLink "IdealProver$Fraction" 23 ⟨"IdealProver$Stop", "<init>", "(I)V"⟩ ∈ jm_tb := jm_in 392 (by decide +kernel) rfl
theorem wd_399 : Cond.fieldLink "IdealProver$Stop" 7 "IdealProver$Stop" "answer" "I" ∈ jm_tb := jm_in 399 (by decide +kernel) rfl
theorem wd_400 : Cond.fieldLinkNest "IdealProver" 136 "IdealProver$Stop" "answer" "I" "IdealProver" ∈ jm_tb := jm_in 400 (by decide +kernel) rfl
theorem wd_415 : Cond.methodLink "IdealProver" 130 ⟨"IdealProver$Poly", "come", "(LIdealProver$Order;LIdealProver$Fraction;III)V"⟩ ∈ jm_tb := jm_in 415 (by decide +kernel) rfl
theorem wd_416 : Cond.instanceMethod ⟨"IdealProver$Poly", "come", "(LIdealProver$Order;LIdealProver$Fraction;III)V"⟩ ∈ jm_tb := jm_in 416 (by decide +kernel) rfl
theorem wd_417 : Cond.selects "IdealProver$Poly" ⟨"IdealProver$Poly", "come", "(LIdealProver$Order;LIdealProver$Fraction;III)V"⟩ ⟨"IdealProver$Poly", "come", "(LIdealProver$Order;LIdealProver$Fraction;III)V"⟩ ∈ jm_tb := jm_in 417 (by decide +kernel) rfl
theorem wd_419 : Cond.methodLink "IdealProver$Poly" 42 ⟨"IdealProver$Poly", "insert", "(IIII)V"⟩ ∈ jm_tb := jm_in 419 (by decide +kernel) rfl
theorem wd_421 : Cond.instanceMethod ⟨"IdealProver$Poly", "insert", "(IIII)V"⟩ ∈ jm_tb := jm_in 421 (by decide +kernel) rfl
theorem wd_423 : Cond.classLink "IdealProver$Poly" 31 "IdealProver$Stop" ∈ jm_tb := jm_in 423 (by decide +kernel) rfl
theorem wd_424 : Cond.methodLink "IdealProver$Poly" 33 ⟨"IdealProver$Stop", "<init>", "(I)V"⟩ ∈ jm_tb := jm_in 424 (by decide +kernel) rfl
theorem wd_425 : Cond.methodLink "IdealProver$Poly" 46 ⟨"IdealProver$Fraction", "plus", "(IIII)V"⟩ ∈ jm_tb := jm_in 425 (by decide +kernel) rfl
theorem wd_426 : Cond.instanceMethod ⟨"IdealProver$Fraction", "plus", "(IIII)V"⟩ ∈ jm_tb := jm_in 426 (by decide +kernel) rfl
theorem wd_427 : Cond.selects "IdealProver$Fraction" ⟨"IdealProver$Fraction", "plus", "(IIII)V"⟩ ⟨"IdealProver$Fraction", "plus", "(IIII)V"⟩ ∈ jm_tb := jm_in 427 (by decide +kernel) rfl
theorem wd_429 : Cond.methodLink "IdealProver$Fraction" 35 ⟨"IdealProver$Fraction", "set", "(JJ)V"⟩ ∈ jm_tb := jm_in 429 (by decide +kernel) rfl
theorem wd_430 : Cond.methodLink "IdealProver$Poly" 53 ⟨"IdealProver$Poly", "remove", "(I)V"⟩ ∈ jm_tb := jm_in 430 (by decide +kernel) rfl
theorem wd_432 : Cond.instanceMethod ⟨"IdealProver$Poly", "remove", "(I)V"⟩ ∈ jm_tb := jm_in 432 (by decide +kernel) rfl
theorem wd_434 : Cond.methodLink "IdealProver" 139 ⟨"IdealProver", "give", "(LIdealProver$Poly;I)I"⟩ ∈ jm_tb := jm_in 434 (by decide +kernel) rfl
theorem wd_436 : Cond.instanceMethod ⟨"IdealProver", "give", "(LIdealProver$Poly;I)I"⟩ ∈ jm_tb := jm_in 436 (by decide +kernel) rfl
theorem wd_438 : Cond.methodLink "IdealProverLaw" 36 ⟨"IdealProver", "zero", "(I)I"⟩ ∈ jm_tb := jm_in 438 (by decide +kernel) rfl
theorem wd_439 : Cond.instanceMethod ⟨"IdealProver", "zero", "(I)I"⟩ ∈ jm_tb := jm_in 439 (by decide +kernel) rfl
theorem wd_440 : Cond.selects "IdealProver" ⟨"IdealProver", "zero", "(I)I"⟩ ⟨"IdealProver", "zero", "(I)I"⟩ ∈ jm_tb := jm_in 440 (by decide +kernel) rfl
theorem wd_442 : Cond.methodLink "IdealProverLaw" 40 ⟨"IdealProver", "size", "(I)I"⟩ ∈ jm_tb := jm_in 442 (by decide +kernel) rfl
theorem wd_443 : Cond.instanceMethod ⟨"IdealProver", "size", "(I)I"⟩ ∈ jm_tb := jm_in 443 (by decide +kernel) rfl
theorem wd_444 : Cond.selects "IdealProver" ⟨"IdealProver", "size", "(I)I"⟩ ⟨"IdealProver", "size", "(I)I"⟩ ∈ jm_tb := jm_in 444 (by decide +kernel) rfl
theorem wd_446 : Cond.methodLink "IdealProverLaw" 44 ⟨"IdealProver", "told", "(III)I"⟩ ∈ jm_tb := jm_in 446 (by decide +kernel) rfl
theorem wd_447 : Cond.instanceMethod ⟨"IdealProver", "told", "(III)I"⟩ ∈ jm_tb := jm_in 447 (by decide +kernel) rfl
theorem wd_448 : Cond.selects "IdealProver" ⟨"IdealProver", "told", "(III)I"⟩ ⟨"IdealProver", "told", "(III)I"⟩ ∈ jm_tb := jm_in 448 (by decide +kernel) rfl
theorem wd_450 : Cond.methodLink "IdealProver" 1 ⟨"IdealProver", "exponent", "(II)I"⟩ ∈ jm_tb := jm_in 450 (by decide +kernel) rfl
theorem wd_451 : Cond.methodLink "IdealProverLaw" 49 ⟨"IdealProver", "plus", "(III)I"⟩ ∈ jm_tb := jm_in 451 (by decide +kernel) rfl
theorem wd_452 : Cond.instanceMethod ⟨"IdealProver", "plus", "(III)I"⟩ ∈ jm_tb := jm_in 452 (by decide +kernel) rfl
theorem wd_453 : Cond.selects "IdealProver" ⟨"IdealProver", "plus", "(III)I"⟩ ⟨"IdealProver", "plus", "(III)I"⟩ ∈ jm_tb := jm_in 453 (by decide +kernel) rfl
theorem wd_455 : Cond.methodLink "IdealProver" 150 ⟨"IdealProver$Poly", "plus", "(LIdealProver$Order;LIdealProver$Fraction;IIILIdealProver$Poly;)V"⟩ ∈ jm_tb := jm_in 455 (by decide +kernel) rfl
theorem wd_456 : Cond.instanceMethod ⟨"IdealProver$Poly", "plus", "(LIdealProver$Order;LIdealProver$Fraction;IIILIdealProver$Poly;)V"⟩ ∈ jm_tb := jm_in 456 (by decide +kernel) rfl
theorem wd_457 : Cond.selects "IdealProver$Poly" ⟨"IdealProver$Poly", "plus", "(LIdealProver$Order;LIdealProver$Fraction;IIILIdealProver$Poly;)V"⟩ ⟨"IdealProver$Poly", "plus", "(LIdealProver$Order;LIdealProver$Fraction;IIILIdealProver$Poly;)V"⟩ ∈ jm_tb := jm_in 457 (by decide +kernel) rfl
theorem wd_459 : Cond.methodLinkNest "IdealProver$Poly" 58 ⟨"IdealProver", "exponent", "(II)I"⟩ "IdealProver" ∈ jm_tb := jm_in 459 (by decide +kernel) rfl
theorem wd_460 : Cond.methodLink "IdealProver$Poly" 61 ⟨"IdealProver$Fraction", "times", "(IIII)V"⟩ ∈ jm_tb := jm_in 460 (by decide +kernel) rfl
theorem wd_461 : Cond.instanceMethod ⟨"IdealProver$Fraction", "times", "(IIII)V"⟩ ∈ jm_tb := jm_in 461 (by decide +kernel) rfl
theorem wd_462 : Cond.selects "IdealProver$Fraction" ⟨"IdealProver$Fraction", "times", "(IIII)V"⟩ ⟨"IdealProver$Fraction", "times", "(IIII)V"⟩ ∈ jm_tb := jm_in 462 (by decide +kernel) rfl
theorem wd_464 : Cond.methodLink "IdealProver$Poly" 64 ⟨"IdealProver$Poly", "come", "(LIdealProver$Order;LIdealProver$Fraction;III)V"⟩ ∈ jm_tb := jm_in 464 (by decide +kernel) rfl
theorem wd_465 : Cond.methodLink "IdealProverLaw" 53 ⟨"IdealProver", "times", "(III)I"⟩ ∈ jm_tb := jm_in 465 (by decide +kernel) rfl
theorem wd_466 : Cond.instanceMethod ⟨"IdealProver", "times", "(III)I"⟩ ∈ jm_tb := jm_in 466 (by decide +kernel) rfl
theorem wd_467 : Cond.selects "IdealProver" ⟨"IdealProver", "times", "(III)I"⟩ ⟨"IdealProver", "times", "(III)I"⟩ ∈ jm_tb := jm_in 467 (by decide +kernel) rfl
theorem wd_469 : Cond.methodLink "IdealProver" 154 ⟨"IdealProver", "multiply", "(LIdealProver$Poly;LIdealProver$Poly;LIdealProver$Poly;)V"⟩ ∈ jm_tb := jm_in 469 (by decide +kernel) rfl
theorem wd_471 : Cond.instanceMethod ⟨"IdealProver", "multiply", "(LIdealProver$Poly;LIdealProver$Poly;LIdealProver$Poly;)V"⟩ ∈ jm_tb := jm_in 471 (by decide +kernel) rfl
theorem wd_473 : Cond.methodLink "IdealProverLaw" 57 ⟨"IdealProver", "same", "(II)I"⟩ ∈ jm_tb := jm_in 473 (by decide +kernel) rfl
theorem wd_474 : Cond.instanceMethod ⟨"IdealProver", "same", "(II)I"⟩ ∈ jm_tb := jm_in 474 (by decide +kernel) rfl
theorem wd_475 : Cond.selects "IdealProver" ⟨"IdealProver", "same", "(II)I"⟩ ⟨"IdealProver", "same", "(II)I"⟩ ∈ jm_tb := jm_in 475 (by decide +kernel) rfl
theorem wd_477 : Cond.methodLink "IdealProver" 158 ⟨"IdealProver$Poly", "isSame", "(LIdealProver$Poly;)Z"⟩ ∈ jm_tb := jm_in 477 (by decide +kernel) rfl
theorem wd_478 : Cond.instanceMethod ⟨"IdealProver$Poly", "isSame", "(LIdealProver$Poly;)Z"⟩ ∈ jm_tb := jm_in 478 (by decide +kernel) rfl
theorem wd_479 : Cond.selects "IdealProver$Poly" ⟨"IdealProver$Poly", "isSame", "(LIdealProver$Poly;)Z"⟩ ⟨"IdealProver$Poly", "isSame", "(LIdealProver$Poly;)Z"⟩ ∈ jm_tb := jm_in 479 (by decide +kernel) rfl
theorem wd_481 : Cond.methodLink "IdealProverLaw" 62 ⟨"IdealProver", "vanishes", "(IIIII)I"⟩ ∈ jm_tb := jm_in 481 (by decide +kernel) rfl
theorem wd_482 : Cond.instanceMethod ⟨"IdealProver", "vanishes", "(IIIII)I"⟩ ∈ jm_tb := jm_in 482 (by decide +kernel) rfl
theorem wd_483 : Cond.selects "IdealProver" ⟨"IdealProver", "vanishes", "(IIIII)I"⟩ ⟨"IdealProver", "vanishes", "(IIIII)I"⟩ ∈ jm_tb := jm_in 483 (by decide +kernel) rfl
theorem wd_485 : Cond.constantLong "IdealProver" 168 (1000) ∈ jm_tb := jm_in 485 (by decide +kernel) rfl
theorem wd_486 : Cond.methodLink "IdealProver" 170 ⟨"IdealProver", "valueIsZero", "(LIdealProver$Poly;IIII)I"⟩ ∈ jm_tb := jm_in 486 (by decide +kernel) rfl
theorem wd_488 : Cond.instanceMethod ⟨"IdealProver", "valueIsZero", "(LIdealProver$Poly;IIII)I"⟩ ∈ jm_tb := jm_in 488 (by decide +kernel) rfl
theorem wd_490 : Cond.methodLink "IdealProver" 162 ⟨"IdealProver$Fraction", "times", "(IIII)V"⟩ ∈ jm_tb := jm_in 490 (by decide +kernel) rfl
theorem wd_491 : Cond.methodLink "IdealProver" 166 ⟨"IdealProver$Fraction", "plus", "(IIII)V"⟩ ∈ jm_tb := jm_in 491 (by decide +kernel) rfl
theorem wd_492 : Cond.methodLink "IdealProverLaw" 67 ⟨"IdealProver", "generator", "(I)I"⟩ ∈ jm_tb := jm_in 492 (by decide +kernel) rfl
theorem wd_493 : Cond.instanceMethod ⟨"IdealProver", "generator", "(I)I"⟩ ∈ jm_tb := jm_in 493 (by decide +kernel) rfl
theorem wd_494 : Cond.selects "IdealProver" ⟨"IdealProver", "generator", "(I)I"⟩ ⟨"IdealProver", "generator", "(I)I"⟩ ∈ jm_tb := jm_in 494 (by decide +kernel) rfl
theorem wd_496 : Cond.methodLink "IdealProverLaw" 71 ⟨"IdealProver", "clear", "()I"⟩ ∈ jm_tb := jm_in 496 (by decide +kernel) rfl
theorem wd_497 : Cond.instanceMethod ⟨"IdealProver", "clear", "()I"⟩ ∈ jm_tb := jm_in 497 (by decide +kernel) rfl
theorem wd_498 : Cond.selects "IdealProver" ⟨"IdealProver", "clear", "()I"⟩ ⟨"IdealProver", "clear", "()I"⟩ ∈ jm_tb := jm_in 498 (by decide +kernel) rfl
theorem wd_500 : Cond.methodLink "IdealProverLaw" 75 ⟨"IdealProver", "basis", "(I)I"⟩ ∈ jm_tb := jm_in 500 (by decide +kernel) rfl
theorem wd_501 : Cond.instanceMethod ⟨"IdealProver", "basis", "(I)I"⟩ ∈ jm_tb := jm_in 501 (by decide +kernel) rfl
theorem wd_502 : Cond.selects "IdealProver" ⟨"IdealProver", "basis", "(I)I"⟩ ⟨"IdealProver", "basis", "(I)I"⟩ ∈ jm_tb := jm_in 502 (by decide +kernel) rfl
theorem wd_504 : Cond.methodLink "IdealProver" 174 ⟨"IdealProver", "isSteps", "(I)Z"⟩ ∈ jm_tb := jm_in 504 (by decide +kernel) rfl
theorem wd_505 : Cond.static ⟨"IdealProver", "isSteps", "(I)Z"⟩ ∈ jm_tb := jm_in 505 (by decide +kernel) rfl
theorem wd_507 : Cond.methodLinkNest "IdealProver" 180 ⟨"IdealProver$Engine", "begin", "(LIdealProver$Order;I)V"⟩ "IdealProver" ∈ jm_tb := jm_in 507 (by decide +kernel) rfl
theorem wd_509 : Cond.instanceMethod ⟨"IdealProver$Engine", "begin", "(LIdealProver$Order;I)V"⟩ ∈ jm_tb := jm_in 509 (by decide +kernel) rfl
theorem wd_511 : Cond.methodLink "IdealProver" 184 ⟨"IdealProver$Engine", "generator", "(LIdealProver$Poly;I)V"⟩ ∈ jm_tb := jm_in 511 (by decide +kernel) rfl
theorem wd_512 : Cond.instanceMethod ⟨"IdealProver$Engine", "generator", "(LIdealProver$Poly;I)V"⟩ ∈ jm_tb := jm_in 512 (by decide +kernel) rfl
theorem wd_513 : Cond.selects "IdealProver$Engine" ⟨"IdealProver$Engine", "generator", "(LIdealProver$Poly;I)V"⟩ ⟨"IdealProver$Engine", "generator", "(LIdealProver$Poly;I)V"⟩ ∈ jm_tb := jm_in 513 (by decide +kernel) rfl
theorem wd_515 : Cond.methodLink "IdealProver$Engine" 90 ⟨"IdealProver$Poly", "become", "(LIdealProver$Poly;)V"⟩ ∈ jm_tb := jm_in 515 (by decide +kernel) rfl
theorem wd_516 : Cond.methodLinkNest "IdealProver$Engine" 97 ⟨"IdealProver$Poly", "insert", "(IIII)V"⟩ "IdealProver" ∈ jm_tb := jm_in 516 (by decide +kernel) rfl
theorem wd_517 : Cond.methodLink "IdealProver$Engine" 101 ⟨"IdealProver$Element", "monic", "(LIdealProver$Fraction;I)V"⟩ ∈ jm_tb := jm_in 517 (by decide +kernel) rfl
theorem wd_518 : Cond.instanceMethod ⟨"IdealProver$Element", "monic", "(LIdealProver$Fraction;I)V"⟩ ∈ jm_tb := jm_in 518 (by decide +kernel) rfl
theorem wd_519 : Cond.selects "IdealProver$Element" ⟨"IdealProver$Element", "monic", "(LIdealProver$Fraction;I)V"⟩ ⟨"IdealProver$Element", "monic", "(LIdealProver$Fraction;I)V"⟩ ∈ jm_tb := jm_in 519 (by decide +kernel) rfl
theorem wd_521 : Cond.methodLink "IdealProver$Element" 33 ⟨"IdealProver$Poly", "scale", "(LIdealProver$Fraction;II)V"⟩ ∈ jm_tb := jm_in 521 (by decide +kernel) rfl
theorem wd_522 : Cond.instanceMethod ⟨"IdealProver$Poly", "scale", "(LIdealProver$Fraction;II)V"⟩ ∈ jm_tb := jm_in 522 (by decide +kernel) rfl
theorem wd_523 : Cond.selects "IdealProver$Poly" ⟨"IdealProver$Poly", "scale", "(LIdealProver$Fraction;II)V"⟩ ⟨"IdealProver$Poly", "scale", "(LIdealProver$Fraction;II)V"⟩ ∈ jm_tb := jm_in 523 (by decide +kernel) rfl
theorem wd_525 : Cond.methodLink "IdealProver$Engine" 105 ⟨"IdealProver$Engine", "join", "()V"⟩ ∈ jm_tb := jm_in 525 (by decide +kernel) rfl
theorem wd_527 : Cond.instanceMethod ⟨"IdealProver$Engine", "join", "()V"⟩ ∈ jm_tb := jm_in 527 (by decide +kernel) rfl
theorem wd_529 : Cond.methodLink "IdealProver" 188 ⟨"IdealProver$Engine", "complete", "(I)V"⟩ ∈ jm_tb := jm_in 529 (by decide +kernel) rfl
theorem wd_530 : Cond.instanceMethod ⟨"IdealProver$Engine", "complete", "(I)V"⟩ ∈ jm_tb := jm_in 530 (by decide +kernel) rfl
theorem wd_531 : Cond.selects "IdealProver$Engine" ⟨"IdealProver$Engine", "complete", "(I)V"⟩ ⟨"IdealProver$Engine", "complete", "(I)V"⟩ ∈ jm_tb := jm_in 531 (by decide +kernel) rfl
theorem wd_533 : Cond.methodLink "IdealProver$Engine" 173 ⟨"IdealProver$Engine", "next", "()I"⟩ ∈ jm_tb := jm_in 533 (by decide +kernel) rfl
theorem wd_535 : Cond.instanceMethod ⟨"IdealProver$Engine", "next", "()I"⟩ ∈ jm_tb := jm_in 535 (by decide +kernel) rfl
theorem wd_537 : Cond.methodLink "IdealProver$Engine" 112 ⟨"IdealProver$Engine", "lead", "(I)I"⟩ ∈ jm_tb := jm_in 537 (by decide +kernel) rfl
theorem wd_539 : Cond.instanceMethod ⟨"IdealProver$Engine", "lead", "(I)I"⟩ ∈ jm_tb := jm_in 539 (by decide +kernel) rfl
theorem wd_541 : Cond.methodLinkNest "IdealProver$Engine" 164 ⟨"IdealProver", "common", "(II)I"⟩ "IdealProver" ∈ jm_tb := jm_in 541 (by decide +kernel) rfl
theorem wd_542 : Cond.static ⟨"IdealProver", "common", "(II)I"⟩ ∈ jm_tb := jm_in 542 (by decide +kernel) rfl
theorem wd_544 : Cond.methodLink "IdealProver$Engine" 168 ⟨"IdealProver$Order", "compare", "(II)I"⟩ ∈ jm_tb := jm_in 544 (by decide +kernel) rfl
theorem wd_545 : Cond.methodLink "IdealProver$Engine" 177 ⟨"IdealProver$Engine", "isPassed", "(III)Z"⟩ ∈ jm_tb := jm_in 545 (by decide +kernel) rfl
theorem wd_547 : Cond.instanceMethod ⟨"IdealProver$Engine", "isPassed", "(III)Z"⟩ ∈ jm_tb := jm_in 547 (by decide +kernel) rfl
theorem wd_549 : Cond.methodLinkNest "IdealProver$Engine" 116 ⟨"IdealProver", "divides", "(II)Z"⟩ "IdealProver" ∈ jm_tb := jm_in 549 (by decide +kernel) rfl
theorem wd_550 : Cond.static ⟨"IdealProver", "divides", "(II)Z"⟩ ∈ jm_tb := jm_in 550 (by decide +kernel) rfl
theorem wd_552 : Cond.methodLink "IdealProver$Engine" 120 ⟨"IdealProver$Engine", "isWaiting", "(II)Z"⟩ ∈ jm_tb := jm_in 552 (by decide +kernel) rfl
theorem wd_554 : Cond.instanceMethod ⟨"IdealProver$Engine", "isWaiting", "(II)Z"⟩ ∈ jm_tb := jm_in 554 (by decide +kernel) rfl
theorem wd_556 : Cond.methodLink "IdealProver$Engine" 181 ⟨"IdealProver$Engine", "pair", "(IIII)V"⟩ ∈ jm_tb := jm_in 556 (by decide +kernel) rfl
theorem wd_558 : Cond.instanceMethod ⟨"IdealProver$Engine", "pair", "(IIII)V"⟩ ∈ jm_tb := jm_in 558 (by decide +kernel) rfl
theorem wd_560 : Cond.methodLink "IdealProver$Engine" 154 ⟨"IdealProver$Poly", "plus", "(LIdealProver$Order;LIdealProver$Fraction;IIILIdealProver$Poly;)V"⟩ ∈ jm_tb := jm_in 560 (by decide +kernel) rfl
theorem wd_561 : Cond.methodLink "IdealProver$Engine" 158 ⟨"IdealProver$Engine", "divide", "(I)V"⟩ ∈ jm_tb := jm_in 561 (by decide +kernel) rfl
theorem wd_563 : Cond.instanceMethod ⟨"IdealProver$Engine", "divide", "(I)V"⟩ ∈ jm_tb := jm_in 563 (by decide +kernel) rfl
theorem wd_565 : Cond.methodLink "IdealProver$Engine" 126 ⟨"IdealProver$Engine", "step", "()V"⟩ ∈ jm_tb := jm_in 565 (by decide +kernel) rfl
theorem wd_567 : Cond.instanceMethod ⟨"IdealProver$Engine", "step", "()V"⟩ ∈ jm_tb := jm_in 567 (by decide +kernel) rfl
theorem wd_569 : Cond.classLink "IdealProver$Engine" 123 "IdealProver$Stop" ∈ jm_tb := jm_in 569 (by decide +kernel) rfl
theorem wd_570 : Cond.methodLink "IdealProver$Engine" 125 ⟨"IdealProver$Stop", "<init>", "(I)V"⟩ ∈ jm_tb := jm_in 570 (by decide +kernel) rfl
theorem wd_571 : Cond.methodLinkNest "IdealProver$Engine" 135 ⟨"IdealProver$Poly", "remove", "(I)V"⟩ "IdealProver" ∈ jm_tb := jm_in 571 (by decide +kernel) rfl
theorem wd_572 : Cond.methodLink "IdealProver$Engine" 138 ⟨"IdealProver$Poly", "come", "(LIdealProver$Order;LIdealProver$Fraction;III)V"⟩ ∈ jm_tb := jm_in 572 (by decide +kernel) rfl
theorem wd_573 : Cond.methodLink "IdealProver$Engine" 142 ⟨"java/lang/Math", "abs", "(I)I"⟩ ∈ jm_tb := jm_in 573 (by decide +kernel) rfl
theorem wd_574 : Cond.static ⟨"java/lang/Math", "abs", "(I)I"⟩ ∈ jm_tb := jm_in 574 (by decide +kernel) rfl
theorem wd_575 : Cond.code Lib.Math.abs.name Lib.Math.abs.code 1 (some .int) ∈ jm_tb := jm_in 575 (by decide +kernel) rfl
theorem wd_576 : Cond.methodLink "IdealProver$Engine" 147 ⟨"IdealProver$Fraction", "times", "(IIII)V"⟩ ∈ jm_tb := jm_in 576 (by decide +kernel) rfl
theorem wd_577 : Cond.methodLink "IdealProver$Engine" 161 ⟨"IdealProver$Engine", "shares", "(LIdealProver$Poly;I)V"⟩ ∈ jm_tb := jm_in 577 (by decide +kernel) rfl
theorem wd_579 : Cond.instanceMethod ⟨"IdealProver$Engine", "shares", "(LIdealProver$Poly;I)V"⟩ ∈ jm_tb := jm_in 579 (by decide +kernel) rfl
theorem wd_581 : Cond.methodLink "IdealProver$Engine" 184 ⟨"IdealProver$Engine", "thin", "()V"⟩ ∈ jm_tb := jm_in 581 (by decide +kernel) rfl
theorem wd_583 : Cond.instanceMethod ⟨"IdealProver$Engine", "thin", "()V"⟩ ∈ jm_tb := jm_in 583 (by decide +kernel) rfl
theorem wd_585 : Cond.methodLink "IdealProver$Engine" 191 ⟨"IdealProver$Engine", "swap", "(II)V"⟩ ∈ jm_tb := jm_in 585 (by decide +kernel) rfl
theorem wd_587 : Cond.instanceMethod ⟨"IdealProver$Engine", "swap", "(II)V"⟩ ∈ jm_tb := jm_in 587 (by decide +kernel) rfl
theorem wd_589 : Cond.methodLink "IdealProver$Engine" 187 ⟨"IdealProver$Engine", "reduce", "(II)V"⟩ ∈ jm_tb := jm_in 589 (by decide +kernel) rfl
theorem wd_591 : Cond.instanceMethod ⟨"IdealProver$Engine", "reduce", "(II)V"⟩ ∈ jm_tb := jm_in 591 (by decide +kernel) rfl
theorem wd_593 : Cond.methodLink "IdealProverLaw" 79 ⟨"IdealProver", "done", "(I)I"⟩ ∈ jm_tb := jm_in 593 (by decide +kernel) rfl
theorem wd_594 : Cond.instanceMethod ⟨"IdealProver", "done", "(I)I"⟩ ∈ jm_tb := jm_in 594 (by decide +kernel) rfl
theorem wd_595 : Cond.selects "IdealProver" ⟨"IdealProver", "done", "(I)I"⟩ ⟨"IdealProver", "done", "(I)I"⟩ ∈ jm_tb := jm_in 595 (by decide +kernel) rfl
theorem wd_597 : Cond.methodLink "IdealProverLaw" 83 ⟨"IdealProver", "element", "(II)I"⟩ ∈ jm_tb := jm_in 597 (by decide +kernel) rfl
theorem wd_598 : Cond.instanceMethod ⟨"IdealProver", "element", "(II)I"⟩ ∈ jm_tb := jm_in 598 (by decide +kernel) rfl
theorem wd_599 : Cond.selects "IdealProver" ⟨"IdealProver", "element", "(II)I"⟩ ⟨"IdealProver", "element", "(II)I"⟩ ∈ jm_tb := jm_in 599 (by decide +kernel) rfl
theorem wd_601 : Cond.methodLink "IdealProver" 206 ⟨"IdealProver", "isElement", "(I)Z"⟩ ∈ jm_tb := jm_in 601 (by decide +kernel) rfl
theorem wd_603 : Cond.instanceMethod ⟨"IdealProver", "isElement", "(I)Z"⟩ ∈ jm_tb := jm_in 603 (by decide +kernel) rfl
theorem wd_605 : Cond.methodLink "IdealProverLaw" 87 ⟨"IdealProver", "share", "(III)I"⟩ ∈ jm_tb := jm_in 605 (by decide +kernel) rfl
theorem wd_606 : Cond.instanceMethod ⟨"IdealProver", "share", "(III)I"⟩ ∈ jm_tb := jm_in 606 (by decide +kernel) rfl
theorem wd_607 : Cond.selects "IdealProver" ⟨"IdealProver", "share", "(III)I"⟩ ⟨"IdealProver", "share", "(III)I"⟩ ∈ jm_tb := jm_in 607 (by decide +kernel) rfl
theorem wd_609 : Cond.methodLink "IdealProverLaw" 91 ⟨"IdealProver", "divide", "(II)I"⟩ ∈ jm_tb := jm_in 609 (by decide +kernel) rfl
theorem wd_610 : Cond.instanceMethod ⟨"IdealProver", "divide", "(II)I"⟩ ∈ jm_tb := jm_in 610 (by decide +kernel) rfl
theorem wd_611 : Cond.selects "IdealProver" ⟨"IdealProver", "divide", "(II)I"⟩ ⟨"IdealProver", "divide", "(II)I"⟩ ∈ jm_tb := jm_in 611 (by decide +kernel) rfl
theorem wd_613 : Cond.methodLinkNest "IdealProver" 227 ⟨"IdealProver$Engine", "divide", "(I)V"⟩ "IdealProver" ∈ jm_tb := jm_in 613 (by decide +kernel) rfl
theorem wd_614 : Cond.methodLink "IdealProverLaw" 95 ⟨"IdealProver", "certificate", "(II)I"⟩ ∈ jm_tb := jm_in 614 (by decide +kernel) rfl
theorem wd_615 : Cond.instanceMethod ⟨"IdealProver", "certificate", "(II)I"⟩ ∈ jm_tb := jm_in 615 (by decide +kernel) rfl
theorem wd_616 : Cond.selects "IdealProver" ⟨"IdealProver", "certificate", "(II)I"⟩ ⟨"IdealProver", "certificate", "(II)I"⟩ ∈ jm_tb := jm_in 616 (by decide +kernel) rfl
theorem wd_618 : Cond.methodLink "IdealProverLaw" 99 ⟨"IdealProver", "check", "()I"⟩ ∈ jm_tb := jm_in 618 (by decide +kernel) rfl
theorem wd_619 : Cond.instanceMethod ⟨"IdealProver", "check", "()I"⟩ ∈ jm_tb := jm_in 619 (by decide +kernel) rfl
theorem wd_620 : Cond.selects "IdealProver" ⟨"IdealProver", "check", "()I"⟩ ⟨"IdealProver", "check", "()I"⟩ ∈ jm_tb := jm_in 620 (by decide +kernel) rfl
theorem wd_622 : Cond.methodLink "IdealProverLaw" 103 ⟨"IdealProver", "radical", "(II)I"⟩ ∈ jm_tb := jm_in 622 (by decide +kernel) rfl
theorem wd_623 : Cond.instanceMethod ⟨"IdealProver", "radical", "(II)I"⟩ ∈ jm_tb := jm_in 623 (by decide +kernel) rfl
theorem wd_624 : Cond.selects "IdealProver" ⟨"IdealProver", "radical", "(II)I"⟩ ⟨"IdealProver", "radical", "(II)I"⟩ ∈ jm_tb := jm_in 624 (by decide +kernel) rfl
theorem wd_626 : Cond.methodLinkNest "IdealProver" 236 ⟨"IdealProver$Poly", "insert", "(IIII)V"⟩ "IdealProver" ∈ jm_tb := jm_in 626 (by decide +kernel) rfl
theorem wd_627 : Cond.methodLinkNest "IdealProver" 239 ⟨"IdealProver$Engine", "lead", "(I)I"⟩ "IdealProver" ∈ jm_tb := jm_in 627 (by decide +kernel) rfl
theorem wd_628 : Cond.methodLink "IdealProverLaw" 107 ⟨"IdealProver", "free", "(I)I"⟩ ∈ jm_tb := jm_in 628 (by decide +kernel) rfl
theorem wd_629 : Cond.instanceMethod ⟨"IdealProver", "free", "(I)I"⟩ ∈ jm_tb := jm_in 629 (by decide +kernel) rfl
theorem wd_630 : Cond.selects "IdealProver" ⟨"IdealProver", "free", "(I)I"⟩ ⟨"IdealProver", "free", "(I)I"⟩ ∈ jm_tb := jm_in 630 (by decide +kernel) rfl
theorem wd_632 : Cond.methodLink "IdealProverLaw" 111 ⟨"IdealProver", "stairs", "()I"⟩ ∈ jm_tb := jm_in 632 (by decide +kernel) rfl
theorem wd_633 : Cond.instanceMethod ⟨"IdealProver", "stairs", "()I"⟩ ∈ jm_tb := jm_in 633 (by decide +kernel) rfl
theorem wd_634 : Cond.selects "IdealProver" ⟨"IdealProver", "stairs", "()I"⟩ ⟨"IdealProver", "stairs", "()I"⟩ ∈ jm_tb := jm_in 634 (by decide +kernel) rfl
theorem wd_636 : Cond.methodLink "IdealProver" 243 ⟨"IdealProver", "pure", "(I)I"⟩ ∈ jm_tb := jm_in 636 (by decide +kernel) rfl
theorem wd_638 : Cond.instanceMethod ⟨"IdealProver", "pure", "(I)I"⟩ ∈ jm_tb := jm_in 638 (by decide +kernel) rfl
theorem wd_640 : Cond.methodLink "IdealProver" 246 ⟨"IdealProver", "divides", "(II)Z"⟩ ∈ jm_tb := jm_in 640 (by decide +kernel) rfl
theorem wd_641 : Cond.methodLink "IdealProverLaw" 9 ⟨"IdealProverLaw", "cell", "([II)I"⟩ ∈ jm_tb := jm_in 641 (by decide +kernel) rfl
theorem wd_642 : Cond.static ⟨"IdealProverLaw", "cell", "([II)I"⟩ ∈ jm_tb := jm_in 642 (by decide +kernel) rfl
theorem wd_644 : Cond.classLink "IdealProverLaw" 18 "IdealProverModel" ∈ jm_tb := jm_in 644 (by decide +kernel) rfl
theorem wd_645 : Cond.instantiable "IdealProverModel" 28 ∈ jm_tb := jm_in 645 (by decide +kernel) rfl
theorem wd_646 : Cond.methodLink "IdealProverLaw" 20 ⟨"IdealProverModel", "<init>", "(I)V"⟩ ∈ jm_tb := jm_in 646 (by decide +kernel) rfl
theorem wd_647 : Cond.instanceMethod ⟨"IdealProverModel", "<init>", "(I)V"⟩ ∈ jm_tb := jm_in 647 (by decide +kernel) rfl
theorem wd_649 : Cond.methodLink "IdealProverModel" 1 ⟨"java/lang/Object", "<init>", "()V"⟩ ∈ jm_tb := jm_in 649 (by decide +kernel) rfl
theorem wd_650 : Cond.constant "IdealProverModel" 7 (37200) ∈ jm_tb := jm_in 650 (by decide +kernel) rfl
theorem wd_651 : Cond.fieldLink "IdealProverModel" 36 "IdealProverModel" "n" "I" ∈ jm_tb := jm_in 651 (by decide +kernel) rfl
theorem wd_652 : Cond.fieldLink "IdealProverModel" 40 "IdealProverModel" "vars" "I" ∈ jm_tb := jm_in 652 (by decide +kernel) rfl
theorem wd_653 : Cond.fieldLink "IdealProverModel" 47 "IdealProverModel" "kind" "I" ∈ jm_tb := jm_in 653 (by decide +kernel) rfl
theorem wd_654 : Cond.fieldLink "IdealProverModel" 8 "IdealProverModel" "num" "[I" ∈ jm_tb := jm_in 654 (by decide +kernel) rfl
theorem wd_655 : Cond.fieldLink "IdealProverModel" 14 "IdealProverModel" "den" "[I" ∈ jm_tb := jm_in 655 (by decide +kernel) rfl
theorem wd_656 : Cond.fieldLink "IdealProverModel" 17 "IdealProverModel" "mono" "[I" ∈ jm_tb := jm_in 656 (by decide +kernel) rfl
theorem wd_657 : Cond.fieldLink "IdealProverModel" 20 "IdealProverModel" "size" "[I" ∈ jm_tb := jm_in 657 (by decide +kernel) rfl
theorem wd_658 : Cond.fieldLink "IdealProverModel" 90 "IdealProverModel" "generators" "I" ∈ jm_tb := jm_in 658 (by decide +kernel) rfl
theorem wd_659 : Cond.fieldLink "IdealProverModel" 205 "IdealProverModel" "elements" "I" ∈ jm_tb := jm_in 659 (by decide +kernel) rfl
theorem wd_660 : Cond.fieldLink "IdealProverModel" 97 "IdealProverModel" "hasBasis" "Z" ∈ jm_tb := jm_in 660 (by decide +kernel) rfl
theorem wd_661 : Cond.fieldLink "IdealProverModel" 198 "IdealProverModel" "hasCertificate" "Z" ∈ jm_tb := jm_in 661 (by decide +kernel) rfl
theorem wd_662 : Cond.fieldLink "IdealProverModel" 54 "IdealProverModel" "full" "Z" ∈ jm_tb := jm_in 662 (by decide +kernel) rfl
theorem wd_663 : Cond.fieldLink "IdealProverModel" 127 "IdealProverModel" "spent" "Z" ∈ jm_tb := jm_in 663 (by decide +kernel) rfl
theorem wd_664 : Cond.fieldLink "IdealProverModel" 121 "IdealProverModel" "steps" "I" ∈ jm_tb := jm_in 664 (by decide +kernel) rfl
theorem wd_665 : Cond.fieldLink "IdealProverModel" 124 "IdealProverModel" "most" "I" ∈ jm_tb := jm_in 665 (by decide +kernel) rfl
theorem wd_666 : Cond.fieldLink "IdealProverModel" 23 "IdealProverModel" "did" "[I" ∈ jm_tb := jm_in 666 (by decide +kernel) rfl
theorem wd_667 : Cond.fieldLink "IdealProverModel" 62 "IdealProverModel" "up" "I" ∈ jm_tb := jm_in 667 (by decide +kernel) rfl
theorem wd_668 : Cond.fieldLink "IdealProverModel" 65 "IdealProverModel" "down" "I" ∈ jm_tb := jm_in 668 (by decide +kernel) rfl
theorem wd_669 : Cond.fieldLink "IdealProverModel" 26 "IdealProverModel" "at" "[I" ∈ jm_tb := jm_in 669 (by decide +kernel) rfl
theorem wd_670 : Cond.fieldLink "IdealProverModel" 139 "IdealProverModel" "firstOf" "I" ∈ jm_tb := jm_in 670 (by decide +kernel) rfl
theorem wd_671 : Cond.fieldLink "IdealProverModel" 133 "IdealProverModel" "manyOf" "I" ∈ jm_tb := jm_in 671 (by decide +kernel) rfl
theorem wd_672 : Cond.fieldLink "IdealProverModel" 136 "IdealProverModel" "leftOut" "I" ∈ jm_tb := jm_in 672 (by decide +kernel) rfl
theorem wd_673 : Cond.fieldLink "IdealProverModel" 151 "IdealProverModel" "withShares" "Z" ∈ jm_tb := jm_in 673 (by decide +kernel) rfl
theorem wd_674 : Cond.fieldLink "IdealProverModel" 29 "IdealProverModel" "waits" "[Z" ∈ jm_tb := jm_in 674 (by decide +kernel) rfl
theorem wd_675 : Cond.fieldLink "IdealProverModel" 157 "IdealProverModel" "pairsDone" "I" ∈ jm_tb := jm_in 675 (by decide +kernel) rfl
theorem wd_676 : Cond.fieldLink "IdealProverModel" 160 "IdealProverModel" "pairsPassed" "I" ∈ jm_tb := jm_in 676 (by decide +kernel) rfl
theorem wd_677 : Cond.fieldLink "IdealProverModel" 173 "IdealProverModel" "madeCount" "I" ∈ jm_tb := jm_in 677 (by decide +kernel) rfl
theorem wd_678 : Cond.fieldLink "IdealProverModel" 33 "IdealProverModel" "goes" "[Z" ∈ jm_tb := jm_in 678 (by decide +kernel) rfl
theorem wd_736 : Cond.methodLink "IdealProverLaw" 25 ⟨"IdealProverModel", "variables", "()I"⟩ ∈ jm_tb := jm_in 736 (by decide +kernel) rfl
theorem wd_737 : Cond.instanceMethod ⟨"IdealProverModel", "variables", "()I"⟩ ∈ jm_tb := jm_in 737 (by decide +kernel) rfl
theorem wd_738 : Cond.selects "IdealProverModel" ⟨"IdealProverModel", "variables", "()I"⟩ ⟨"IdealProverModel", "variables", "()I"⟩ ∈ jm_tb := jm_in 738 (by decide +kernel) rfl
theorem wd_740 : Cond.methodLink "IdealProverLaw" 30 ⟨"IdealProverModel", "order", "(I)I"⟩ ∈ jm_tb := jm_in 740 (by decide +kernel) rfl
theorem wd_741 : Cond.instanceMethod ⟨"IdealProverModel", "order", "(I)I"⟩ ∈ jm_tb := jm_in 741 (by decide +kernel) rfl
theorem wd_742 : Cond.selects "IdealProverModel" ⟨"IdealProverModel", "order", "(I)I"⟩ ⟨"IdealProverModel", "order", "(I)I"⟩ ∈ jm_tb := jm_in 742 (by decide +kernel) rfl
theorem wd_744 : Cond.methodLink "IdealProverModel" 93 ⟨"IdealProverModel", "sorted", "(I)V"⟩ ∈ jm_tb := jm_in 744 (by decide +kernel) rfl
theorem wd_746 : Cond.instanceMethod ⟨"IdealProverModel", "sorted", "(I)V"⟩ ∈ jm_tb := jm_in 746 (by decide +kernel) rfl
theorem wd_748 : Cond.methodLink "IdealProverModel" 72 ⟨"IdealProverModel", "compare", "(II)I"⟩ ∈ jm_tb := jm_in 748 (by decide +kernel) rfl
theorem wd_750 : Cond.instanceMethod ⟨"IdealProverModel", "compare", "(II)I"⟩ ∈ jm_tb := jm_in 750 (by decide +kernel) rfl
theorem wd_752 : Cond.methodLink "IdealProverModel" 43 ⟨"IdealProverModel", "exponent", "(II)I"⟩ ∈ jm_tb := jm_in 752 (by decide +kernel) rfl
theorem wd_753 : Cond.static ⟨"IdealProverModel", "exponent", "(II)I"⟩ ∈ jm_tb := jm_in 753 (by decide +kernel) rfl
theorem wd_755 : Cond.methodLink "IdealProverModel" 50 ⟨"IdealProverModel", "sum", "(I)I"⟩ ∈ jm_tb := jm_in 755 (by decide +kernel) rfl
theorem wd_757 : Cond.instanceMethod ⟨"IdealProverModel", "sum", "(I)I"⟩ ∈ jm_tb := jm_in 757 (by decide +kernel) rfl
theorem wd_759 : Cond.methodLink "IdealProverLaw" 35 ⟨"IdealProverModel", "term", "(IIII)I"⟩ ∈ jm_tb := jm_in 759 (by decide +kernel) rfl
theorem wd_760 : Cond.instanceMethod ⟨"IdealProverModel", "term", "(IIII)I"⟩ ∈ jm_tb := jm_in 760 (by decide +kernel) rfl
theorem wd_761 : Cond.selects "IdealProverModel" ⟨"IdealProverModel", "term", "(IIII)I"⟩ ⟨"IdealProverModel", "term", "(IIII)I"⟩ ∈ jm_tb := jm_in 761 (by decide +kernel) rfl
theorem wd_763 : Cond.methodLink "IdealProverModel" 100 ⟨"IdealProverModel", "isPlace", "(I)Z"⟩ ∈ jm_tb := jm_in 763 (by decide +kernel) rfl
theorem wd_764 : Cond.static ⟨"IdealProverModel", "isPlace", "(I)Z"⟩ ∈ jm_tb := jm_in 764 (by decide +kernel) rfl
theorem wd_766 : Cond.constant "IdealProverModel" 104 (-1000000000) ∈ jm_tb := jm_in 766 (by decide +kernel) rfl
theorem wd_767 : Cond.constant "IdealProverModel" 105 (1000000000) ∈ jm_tb := jm_in 767 (by decide +kernel) rfl
theorem wd_768 : Cond.methodLink "IdealProverModel" 106 ⟨"IdealProverModel", "copy", "(II)V"⟩ ∈ jm_tb := jm_in 768 (by decide +kernel) rfl
theorem wd_770 : Cond.instanceMethod ⟨"IdealProverModel", "copy", "(II)V"⟩ ∈ jm_tb := jm_in 770 (by decide +kernel) rfl
theorem wd_772 : Cond.methodLink "IdealProverModel" 68 ⟨"IdealProverModel", "lowest", "(JJ)V"⟩ ∈ jm_tb := jm_in 772 (by decide +kernel) rfl
theorem wd_774 : Cond.instanceMethod ⟨"IdealProverModel", "lowest", "(JJ)V"⟩ ∈ jm_tb := jm_in 774 (by decide +kernel) rfl
theorem wd_776 : Cond.constantLong "IdealProverModel" 58 (1000000000) ∈ jm_tb := jm_in 776 (by decide +kernel) rfl
theorem wd_777 : Cond.constantLong "IdealProverModel" 60 (-1000000000) ∈ jm_tb := jm_in 777 (by decide +kernel) rfl
theorem wd_778 : Cond.methodLink "IdealProverModel" 82 ⟨"IdealProverModel", "comes", "(IIII)V"⟩ ∈ jm_tb := jm_in 778 (by decide +kernel) rfl
theorem wd_780 : Cond.instanceMethod ⟨"IdealProverModel", "comes", "(IIII)V"⟩ ∈ jm_tb := jm_in 780 (by decide +kernel) rfl
theorem wd_782 : Cond.methodLink "IdealProverModel" 110 ⟨"IdealProverModel", "taken", "(II)I"⟩ ∈ jm_tb := jm_in 782 (by decide +kernel) rfl
theorem wd_784 : Cond.instanceMethod ⟨"IdealProverModel", "taken", "(II)I"⟩ ∈ jm_tb := jm_in 784 (by decide +kernel) rfl
theorem wd_786 : Cond.methodLink "IdealProverLaw" 39 ⟨"IdealProverModel", "zero", "(I)I"⟩ ∈ jm_tb := jm_in 786 (by decide +kernel) rfl
theorem wd_787 : Cond.instanceMethod ⟨"IdealProverModel", "zero", "(I)I"⟩ ∈ jm_tb := jm_in 787 (by decide +kernel) rfl
theorem wd_788 : Cond.selects "IdealProverModel" ⟨"IdealProverModel", "zero", "(I)I"⟩ ⟨"IdealProverModel", "zero", "(I)I"⟩ ∈ jm_tb := jm_in 788 (by decide +kernel) rfl
theorem wd_790 : Cond.methodLink "IdealProverLaw" 43 ⟨"IdealProverModel", "size", "(I)I"⟩ ∈ jm_tb := jm_in 790 (by decide +kernel) rfl
theorem wd_791 : Cond.instanceMethod ⟨"IdealProverModel", "size", "(I)I"⟩ ∈ jm_tb := jm_in 791 (by decide +kernel) rfl
theorem wd_792 : Cond.selects "IdealProverModel" ⟨"IdealProverModel", "size", "(I)I"⟩ ⟨"IdealProverModel", "size", "(I)I"⟩ ∈ jm_tb := jm_in 792 (by decide +kernel) rfl
theorem wd_794 : Cond.methodLink "IdealProverLaw" 48 ⟨"IdealProverModel", "told", "(III)I"⟩ ∈ jm_tb := jm_in 794 (by decide +kernel) rfl
theorem wd_795 : Cond.instanceMethod ⟨"IdealProverModel", "told", "(III)I"⟩ ∈ jm_tb := jm_in 795 (by decide +kernel) rfl
theorem wd_796 : Cond.selects "IdealProverModel" ⟨"IdealProverModel", "told", "(III)I"⟩ ⟨"IdealProverModel", "told", "(III)I"⟩ ∈ jm_tb := jm_in 796 (by decide +kernel) rfl
theorem wd_798 : Cond.methodLink "IdealProverLaw" 52 ⟨"IdealProverModel", "plus", "(III)I"⟩ ∈ jm_tb := jm_in 798 (by decide +kernel) rfl
theorem wd_799 : Cond.instanceMethod ⟨"IdealProverModel", "plus", "(III)I"⟩ ∈ jm_tb := jm_in 799 (by decide +kernel) rfl
theorem wd_800 : Cond.selects "IdealProverModel" ⟨"IdealProverModel", "plus", "(III)I"⟩ ⟨"IdealProverModel", "plus", "(III)I"⟩ ∈ jm_tb := jm_in 800 (by decide +kernel) rfl
theorem wd_802 : Cond.methodLink "IdealProverModel" 86 ⟨"IdealProverModel", "adds", "(IIIII)V"⟩ ∈ jm_tb := jm_in 802 (by decide +kernel) rfl
theorem wd_804 : Cond.instanceMethod ⟨"IdealProverModel", "adds", "(IIIII)V"⟩ ∈ jm_tb := jm_in 804 (by decide +kernel) rfl
theorem wd_806 : Cond.methodLink "IdealProverModel" 75 ⟨"IdealProverModel", "product", "(II)I"⟩ ∈ jm_tb := jm_in 806 (by decide +kernel) rfl
theorem wd_808 : Cond.instanceMethod ⟨"IdealProverModel", "product", "(II)I"⟩ ∈ jm_tb := jm_in 808 (by decide +kernel) rfl
theorem wd_810 : Cond.methodLink "IdealProverModel" 78 ⟨"IdealProverModel", "multiplied", "(JJJJ)V"⟩ ∈ jm_tb := jm_in 810 (by decide +kernel) rfl
theorem wd_812 : Cond.instanceMethod ⟨"IdealProverModel", "multiplied", "(JJJJ)V"⟩ ∈ jm_tb := jm_in 812 (by decide +kernel) rfl
theorem wd_814 : Cond.methodLink "IdealProverLaw" 56 ⟨"IdealProverModel", "times", "(III)I"⟩ ∈ jm_tb := jm_in 814 (by decide +kernel) rfl
theorem wd_815 : Cond.instanceMethod ⟨"IdealProverModel", "times", "(III)I"⟩ ∈ jm_tb := jm_in 815 (by decide +kernel) rfl
theorem wd_816 : Cond.selects "IdealProverModel" ⟨"IdealProverModel", "times", "(III)I"⟩ ⟨"IdealProverModel", "times", "(III)I"⟩ ∈ jm_tb := jm_in 816 (by decide +kernel) rfl
theorem wd_818 : Cond.methodLink "IdealProverModel" 113 ⟨"IdealProverModel", "made", "(III)V"⟩ ∈ jm_tb := jm_in 818 (by decide +kernel) rfl
theorem wd_820 : Cond.instanceMethod ⟨"IdealProverModel", "made", "(III)V"⟩ ∈ jm_tb := jm_in 820 (by decide +kernel) rfl
theorem wd_822 : Cond.methodLink "IdealProverLaw" 61 ⟨"IdealProverModel", "same", "(II)I"⟩ ∈ jm_tb := jm_in 822 (by decide +kernel) rfl
theorem wd_823 : Cond.instanceMethod ⟨"IdealProverModel", "same", "(II)I"⟩ ∈ jm_tb := jm_in 823 (by decide +kernel) rfl
theorem wd_824 : Cond.selects "IdealProverModel" ⟨"IdealProverModel", "same", "(II)I"⟩ ⟨"IdealProverModel", "same", "(II)I"⟩ ∈ jm_tb := jm_in 824 (by decide +kernel) rfl
theorem wd_826 : Cond.methodLink "IdealProverModel" 117 ⟨"IdealProverModel", "isSame", "(II)Z"⟩ ∈ jm_tb := jm_in 826 (by decide +kernel) rfl
theorem wd_828 : Cond.instanceMethod ⟨"IdealProverModel", "isSame", "(II)Z"⟩ ∈ jm_tb := jm_in 828 (by decide +kernel) rfl
theorem wd_830 : Cond.methodLink "IdealProverLaw" 66 ⟨"IdealProverModel", "vanishes", "(IIIII)I"⟩ ∈ jm_tb := jm_in 830 (by decide +kernel) rfl
theorem wd_831 : Cond.instanceMethod ⟨"IdealProverModel", "vanishes", "(IIIII)I"⟩ ∈ jm_tb := jm_in 831 (by decide +kernel) rfl
theorem wd_832 : Cond.selects "IdealProverModel" ⟨"IdealProverModel", "vanishes", "(IIIII)I"⟩ ⟨"IdealProverModel", "vanishes", "(IIIII)I"⟩ ∈ jm_tb := jm_in 832 (by decide +kernel) rfl
theorem wd_834 : Cond.methodLink "IdealProverLaw" 70 ⟨"IdealProverModel", "generator", "(I)I"⟩ ∈ jm_tb := jm_in 834 (by decide +kernel) rfl
theorem wd_835 : Cond.instanceMethod ⟨"IdealProverModel", "generator", "(I)I"⟩ ∈ jm_tb := jm_in 835 (by decide +kernel) rfl
theorem wd_836 : Cond.selects "IdealProverModel" ⟨"IdealProverModel", "generator", "(I)I"⟩ ⟨"IdealProverModel", "generator", "(I)I"⟩ ∈ jm_tb := jm_in 836 (by decide +kernel) rfl
theorem wd_838 : Cond.methodLink "IdealProverLaw" 74 ⟨"IdealProverModel", "clear", "()I"⟩ ∈ jm_tb := jm_in 838 (by decide +kernel) rfl
theorem wd_839 : Cond.instanceMethod ⟨"IdealProverModel", "clear", "()I"⟩ ∈ jm_tb := jm_in 839 (by decide +kernel) rfl
theorem wd_840 : Cond.selects "IdealProverModel" ⟨"IdealProverModel", "clear", "()I"⟩ ⟨"IdealProverModel", "clear", "()I"⟩ ∈ jm_tb := jm_in 840 (by decide +kernel) rfl
theorem wd_842 : Cond.methodLink "IdealProverLaw" 78 ⟨"IdealProverModel", "basis", "(I)I"⟩ ∈ jm_tb := jm_in 842 (by decide +kernel) rfl
theorem wd_843 : Cond.instanceMethod ⟨"IdealProverModel", "basis", "(I)I"⟩ ∈ jm_tb := jm_in 843 (by decide +kernel) rfl
theorem wd_844 : Cond.selects "IdealProverModel" ⟨"IdealProverModel", "basis", "(I)I"⟩ ⟨"IdealProverModel", "basis", "(I)I"⟩ ∈ jm_tb := jm_in 844 (by decide +kernel) rfl
theorem wd_846 : Cond.methodLink "IdealProverModel" 201 ⟨"IdealProverModel", "make", "(IIZ)V"⟩ ∈ jm_tb := jm_in 846 (by decide +kernel) rfl
theorem wd_848 : Cond.instanceMethod ⟨"IdealProverModel", "make", "(IIZ)V"⟩ ∈ jm_tb := jm_in 848 (by decide +kernel) rfl
theorem wd_850 : Cond.methodLink "IdealProverModel" 145 ⟨"IdealProverModel", "cofactor", "(II)I"⟩ ∈ jm_tb := jm_in 850 (by decide +kernel) rfl
theorem wd_852 : Cond.instanceMethod ⟨"IdealProverModel", "cofactor", "(II)I"⟩ ∈ jm_tb := jm_in 852 (by decide +kernel) rfl
theorem wd_854 : Cond.methodLink "IdealProverModel" 163 ⟨"IdealProverModel", "monic", "(I)V"⟩ ∈ jm_tb := jm_in 854 (by decide +kernel) rfl
theorem wd_856 : Cond.instanceMethod ⟨"IdealProverModel", "monic", "(I)V"⟩ ∈ jm_tb := jm_in 856 (by decide +kernel) rfl
theorem wd_858 : Cond.methodLink "IdealProverModel" 148 ⟨"IdealProverModel", "scaled", "(III)V"⟩ ∈ jm_tb := jm_in 858 (by decide +kernel) rfl
theorem wd_860 : Cond.instanceMethod ⟨"IdealProverModel", "scaled", "(III)V"⟩ ∈ jm_tb := jm_in 860 (by decide +kernel) rfl
theorem wd_862 : Cond.methodLink "IdealProverModel" 166 ⟨"IdealProverModel", "addPairs", "(I)V"⟩ ∈ jm_tb := jm_in 862 (by decide +kernel) rfl
theorem wd_864 : Cond.instanceMethod ⟨"IdealProverModel", "addPairs", "(I)V"⟩ ∈ jm_tb := jm_in 864 (by decide +kernel) rfl
theorem wd_866 : Cond.methodLink "IdealProverModel" 169 ⟨"IdealProverModel", "onePair", "()Z"⟩ ∈ jm_tb := jm_in 866 (by decide +kernel) rfl
theorem wd_868 : Cond.instanceMethod ⟨"IdealProverModel", "onePair", "()Z"⟩ ∈ jm_tb := jm_in 868 (by decide +kernel) rfl
theorem wd_870 : Cond.methodLink "IdealProverModel" 130 ⟨"IdealProverModel", "lead", "(I)I"⟩ ∈ jm_tb := jm_in 870 (by decide +kernel) rfl
theorem wd_872 : Cond.instanceMethod ⟨"IdealProverModel", "lead", "(I)I"⟩ ∈ jm_tb := jm_in 872 (by decide +kernel) rfl
theorem wd_874 : Cond.methodLink "IdealProverModel" 182 ⟨"IdealProverModel", "common", "(II)I"⟩ ∈ jm_tb := jm_in 874 (by decide +kernel) rfl
theorem wd_876 : Cond.instanceMethod ⟨"IdealProverModel", "common", "(II)I"⟩ ∈ jm_tb := jm_in 876 (by decide +kernel) rfl
theorem wd_878 : Cond.methodLink "IdealProverModel" 185 ⟨"IdealProverModel", "isPassed", "(III)Z"⟩ ∈ jm_tb := jm_in 878 (by decide +kernel) rfl
theorem wd_880 : Cond.instanceMethod ⟨"IdealProverModel", "isPassed", "(III)Z"⟩ ∈ jm_tb := jm_in 880 (by decide +kernel) rfl
theorem wd_882 : Cond.methodLink "IdealProverModel" 142 ⟨"IdealProverModel", "divides", "(II)Z"⟩ ∈ jm_tb := jm_in 882 (by decide +kernel) rfl
theorem wd_884 : Cond.instanceMethod ⟨"IdealProverModel", "divides", "(II)Z"⟩ ∈ jm_tb := jm_in 884 (by decide +kernel) rfl
theorem wd_886 : Cond.methodLink "IdealProverModel" 154 ⟨"IdealProverModel", "isWaiting", "(II)Z"⟩ ∈ jm_tb := jm_in 886 (by decide +kernel) rfl
theorem wd_888 : Cond.instanceMethod ⟨"IdealProverModel", "isWaiting", "(II)Z"⟩ ∈ jm_tb := jm_in 888 (by decide +kernel) rfl
theorem wd_890 : Cond.methodLink "IdealProverModel" 189 ⟨"IdealProverModel", "divided", "(II)V"⟩ ∈ jm_tb := jm_in 890 (by decide +kernel) rfl
theorem wd_892 : Cond.instanceMethod ⟨"IdealProverModel", "divided", "(II)V"⟩ ∈ jm_tb := jm_in 892 (by decide +kernel) rfl
theorem wd_894 : Cond.methodLink "IdealProverModel" 192 ⟨"IdealProverModel", "lessShares", "(III)V"⟩ ∈ jm_tb := jm_in 894 (by decide +kernel) rfl
theorem wd_896 : Cond.instanceMethod ⟨"IdealProverModel", "lessShares", "(III)V"⟩ ∈ jm_tb := jm_in 896 (by decide +kernel) rfl
theorem wd_898 : Cond.methodLink "IdealProverModel" 176 ⟨"IdealProverModel", "clean", "()V"⟩ ∈ jm_tb := jm_in 898 (by decide +kernel) rfl
theorem wd_900 : Cond.instanceMethod ⟨"IdealProverModel", "clean", "()V"⟩ ∈ jm_tb := jm_in 900 (by decide +kernel) rfl
theorem wd_902 : Cond.methodLink "IdealProverModel" 195 ⟨"IdealProverModel", "move", "(II)V"⟩ ∈ jm_tb := jm_in 902 (by decide +kernel) rfl
theorem wd_904 : Cond.instanceMethod ⟨"IdealProverModel", "move", "(II)V"⟩ ∈ jm_tb := jm_in 904 (by decide +kernel) rfl
theorem wd_906 : Cond.methodLink "IdealProverModel" 179 ⟨"IdealProverModel", "reduce", "(I)V"⟩ ∈ jm_tb := jm_in 906 (by decide +kernel) rfl
theorem wd_908 : Cond.instanceMethod ⟨"IdealProverModel", "reduce", "(I)V"⟩ ∈ jm_tb := jm_in 908 (by decide +kernel) rfl
theorem wd_910 : Cond.methodLink "IdealProverLaw" 82 ⟨"IdealProverModel", "done", "(I)I"⟩ ∈ jm_tb := jm_in 910 (by decide +kernel) rfl
theorem wd_911 : Cond.instanceMethod ⟨"IdealProverModel", "done", "(I)I"⟩ ∈ jm_tb := jm_in 911 (by decide +kernel) rfl
theorem wd_912 : Cond.selects "IdealProverModel" ⟨"IdealProverModel", "done", "(I)I"⟩ ⟨"IdealProverModel", "done", "(I)I"⟩ ∈ jm_tb := jm_in 912 (by decide +kernel) rfl
theorem wd_914 : Cond.methodLink "IdealProverLaw" 86 ⟨"IdealProverModel", "element", "(II)I"⟩ ∈ jm_tb := jm_in 914 (by decide +kernel) rfl
theorem wd_915 : Cond.instanceMethod ⟨"IdealProverModel", "element", "(II)I"⟩ ∈ jm_tb := jm_in 915 (by decide +kernel) rfl
theorem wd_916 : Cond.selects "IdealProverModel" ⟨"IdealProverModel", "element", "(II)I"⟩ ⟨"IdealProverModel", "element", "(II)I"⟩ ∈ jm_tb := jm_in 916 (by decide +kernel) rfl
theorem wd_918 : Cond.methodLink "IdealProverLaw" 90 ⟨"IdealProverModel", "share", "(III)I"⟩ ∈ jm_tb := jm_in 918 (by decide +kernel) rfl
theorem wd_919 : Cond.instanceMethod ⟨"IdealProverModel", "share", "(III)I"⟩ ∈ jm_tb := jm_in 919 (by decide +kernel) rfl
theorem wd_920 : Cond.selects "IdealProverModel" ⟨"IdealProverModel", "share", "(III)I"⟩ ⟨"IdealProverModel", "share", "(III)I"⟩ ∈ jm_tb := jm_in 920 (by decide +kernel) rfl
theorem wd_922 : Cond.methodLink "IdealProverLaw" 94 ⟨"IdealProverModel", "divide", "(II)I"⟩ ∈ jm_tb := jm_in 922 (by decide +kernel) rfl
theorem wd_923 : Cond.instanceMethod ⟨"IdealProverModel", "divide", "(II)I"⟩ ∈ jm_tb := jm_in 923 (by decide +kernel) rfl
theorem wd_924 : Cond.selects "IdealProverModel" ⟨"IdealProverModel", "divide", "(II)I"⟩ ⟨"IdealProverModel", "divide", "(II)I"⟩ ∈ jm_tb := jm_in 924 (by decide +kernel) rfl
theorem wd_926 : Cond.methodLink "IdealProverModel" 208 ⟨"IdealProverModel", "own", "()V"⟩ ∈ jm_tb := jm_in 926 (by decide +kernel) rfl
theorem wd_928 : Cond.instanceMethod ⟨"IdealProverModel", "own", "()V"⟩ ∈ jm_tb := jm_in 928 (by decide +kernel) rfl
theorem wd_930 : Cond.methodLink "IdealProverLaw" 98 ⟨"IdealProverModel", "certificate", "(II)I"⟩ ∈ jm_tb := jm_in 930 (by decide +kernel) rfl
theorem wd_931 : Cond.instanceMethod ⟨"IdealProverModel", "certificate", "(II)I"⟩ ∈ jm_tb := jm_in 931 (by decide +kernel) rfl
theorem wd_932 : Cond.selects "IdealProverModel" ⟨"IdealProverModel", "certificate", "(II)I"⟩ ⟨"IdealProverModel", "certificate", "(II)I"⟩ ∈ jm_tb := jm_in 932 (by decide +kernel) rfl
theorem wd_934 : Cond.methodLink "IdealProverLaw" 102 ⟨"IdealProverModel", "check", "()I"⟩ ∈ jm_tb := jm_in 934 (by decide +kernel) rfl
theorem wd_935 : Cond.instanceMethod ⟨"IdealProverModel", "check", "()I"⟩ ∈ jm_tb := jm_in 935 (by decide +kernel) rfl
theorem wd_936 : Cond.selects "IdealProverModel" ⟨"IdealProverModel", "check", "()I"⟩ ⟨"IdealProverModel", "check", "()I"⟩ ∈ jm_tb := jm_in 936 (by decide +kernel) rfl
theorem wd_938 : Cond.methodLink "IdealProverLaw" 106 ⟨"IdealProverModel", "radical", "(II)I"⟩ ∈ jm_tb := jm_in 938 (by decide +kernel) rfl
theorem wd_939 : Cond.instanceMethod ⟨"IdealProverModel", "radical", "(II)I"⟩ ∈ jm_tb := jm_in 939 (by decide +kernel) rfl
theorem wd_940 : Cond.selects "IdealProverModel" ⟨"IdealProverModel", "radical", "(II)I"⟩ ⟨"IdealProverModel", "radical", "(II)I"⟩ ∈ jm_tb := jm_in 940 (by decide +kernel) rfl
theorem wd_942 : Cond.methodLink "IdealProverLaw" 110 ⟨"IdealProverModel", "free", "(I)I"⟩ ∈ jm_tb := jm_in 942 (by decide +kernel) rfl
theorem wd_943 : Cond.instanceMethod ⟨"IdealProverModel", "free", "(I)I"⟩ ∈ jm_tb := jm_in 943 (by decide +kernel) rfl
theorem wd_944 : Cond.selects "IdealProverModel" ⟨"IdealProverModel", "free", "(I)I"⟩ ⟨"IdealProverModel", "free", "(I)I"⟩ ∈ jm_tb := jm_in 944 (by decide +kernel) rfl
theorem wd_946 : Cond.methodLink "IdealProverLaw" 114 ⟨"IdealProverModel", "stairs", "()I"⟩ ∈ jm_tb := jm_in 946 (by decide +kernel) rfl
theorem wd_947 : Cond.instanceMethod ⟨"IdealProverModel", "stairs", "()I"⟩ ∈ jm_tb := jm_in 947 (by decide +kernel) rfl
theorem wd_948 : Cond.selects "IdealProverModel" ⟨"IdealProverModel", "stairs", "()I"⟩ ⟨"IdealProverModel", "stairs", "()I"⟩ ∈ jm_tb := jm_in 948 (by decide +kernel) rfl
theorem wd_950 : Cond.methodLink "IdealProverModel" 211 ⟨"IdealProverModel", "isStair", "(I)Z"⟩ ∈ jm_tb := jm_in 950 (by decide +kernel) rfl
theorem wd_952 : Cond.instanceMethod ⟨"IdealProverModel", "isStair", "(I)Z"⟩ ∈ jm_tb := jm_in 952 (by decide +kernel) rfl
theorem ci_H : jm_ci 1 R_H F_H 15 t_H := ⟨by decide, rfl, by decide +kernel, t_H_ok, n_H, rfl, by decide⟩
theorem df_H : ∀ (j : Nat) (o : Option Nat), (jm_fk 1)[j]? = some o → defaultValue (t_H j) = (match o with | none => .int 0 | some _ => .null) := by
  intro j o h
  have hj : j < 15 := (List.getElem?_eq_some_iff.mp h).1
  have key : ∀ j, j < 15 → ∀ o, (jm_fk 1)[j]? = some o → defaultValue (t_H j) = (match o with | none => .int 0 | some _ => .null) := by
    intro j hj
    match j, hj with
    | 0, _ => exact fun o h => by cases h; rfl
    | 1, _ => exact fun o h => by cases h; rfl
    | 2, _ => exact fun o h => by cases h; rfl
    | 3, _ => exact fun o h => by cases h; rfl
    | 4, _ => exact fun o h => by cases h; rfl
    | 5, _ => exact fun o h => by cases h; rfl
    | 6, _ => exact fun o h => by cases h; rfl
    | 7, _ => exact fun o h => by cases h; rfl
    | 8, _ => exact fun o h => by cases h; rfl
    | 9, _ => exact fun o h => by cases h; rfl
    | 10, _ => exact fun o h => by cases h; rfl
    | 11, _ => exact fun o h => by cases h; rfl
    | 12, _ => exact fun o h => by cases h; rfl
    | 13, _ => exact fun o h => by cases h; rfl
    | 14, _ => exact fun o h => by cases h; rfl
    | n + 15, h => exact absurd h (by omega)
  exact key j hj o h
theorem ci_G : jm_ci 2 R_G F_G 17 t_G := ⟨by decide, rfl, by decide +kernel, t_G_ok, n_G, rfl, by decide⟩
theorem df_G : ∀ (j : Nat) (o : Option Nat), (jm_fk 2)[j]? = some o → defaultValue (t_G j) = (match o with | none => .int 0 | some _ => .null) := by
  intro j o h
  have hj : j < 17 := (List.getElem?_eq_some_iff.mp h).1
  have key : ∀ j, j < 17 → ∀ o, (jm_fk 2)[j]? = some o → defaultValue (t_G j) = (match o with | none => .int 0 | some _ => .null) := by
    intro j hj
    match j, hj with
    | 0, _ => exact fun o h => by cases h; rfl
    | 1, _ => exact fun o h => by cases h; rfl
    | 2, _ => exact fun o h => by cases h; rfl
    | 3, _ => exact fun o h => by cases h; rfl
    | 4, _ => exact fun o h => by cases h; rfl
    | 5, _ => exact fun o h => by cases h; rfl
    | 6, _ => exact fun o h => by cases h; rfl
    | 7, _ => exact fun o h => by cases h; rfl
    | 8, _ => exact fun o h => by cases h; rfl
    | 9, _ => exact fun o h => by cases h; rfl
    | 10, _ => exact fun o h => by cases h; rfl
    | 11, _ => exact fun o h => by cases h; rfl
    | 12, _ => exact fun o h => by cases h; rfl
    | 13, _ => exact fun o h => by cases h; rfl
    | 14, _ => exact fun o h => by cases h; rfl
    | 15, _ => exact fun o h => by cases h; rfl
    | 16, _ => exact fun o h => by cases h; rfl
    | n + 17, h => exact absurd h (by omega)
  exact key j hj o h
theorem ci_E : jm_ci 3 R_E F_E 2 t_E := ⟨by decide, rfl, by decide +kernel, t_E_ok, n_E, rfl, by decide⟩
theorem df_E : ∀ (j : Nat) (o : Option Nat), (jm_fk 3)[j]? = some o → defaultValue (t_E j) = (match o with | none => .int 0 | some _ => .null) := by
  intro j o h
  have hj : j < 2 := (List.getElem?_eq_some_iff.mp h).1
  have key : ∀ j, j < 2 → ∀ o, (jm_fk 3)[j]? = some o → defaultValue (t_E j) = (match o with | none => .int 0 | some _ => .null) := by
    intro j hj
    match j, hj with
    | 0, _ => exact fun o h => by cases h; rfl
    | 1, _ => exact fun o h => by cases h; rfl
    | n + 2, h => exact absurd h (by omega)
  exact key j hj o h
theorem ci_F : jm_ci 4 R_F F_F 2 t_F := ⟨by decide, rfl, by decide +kernel, t_F_ok, n_F, rfl, by decide⟩
theorem df_F : ∀ (j : Nat) (o : Option Nat), (jm_fk 4)[j]? = some o → defaultValue (t_F j) = (match o with | none => .int 0 | some _ => .null) := by
  intro j o h
  have hj : j < 2 := (List.getElem?_eq_some_iff.mp h).1
  have key : ∀ j, j < 2 → ∀ o, (jm_fk 4)[j]? = some o → defaultValue (t_F j) = (match o with | none => .int 0 | some _ => .null) := by
    intro j hj
    match j, hj with
    | 0, _ => exact fun o h => by cases h; rfl
    | 1, _ => exact fun o h => by cases h; rfl
    | n + 2, h => exact absurd h (by omega)
  exact key j hj o h
theorem ci_P : jm_ci 5 R_P F_P 4 t_P := ⟨by decide, rfl, by decide +kernel, t_P_ok, n_P, rfl, by decide⟩
theorem df_P : ∀ (j : Nat) (o : Option Nat), (jm_fk 5)[j]? = some o → defaultValue (t_P j) = (match o with | none => .int 0 | some _ => .null) := by
  intro j o h
  have hj : j < 4 := (List.getElem?_eq_some_iff.mp h).1
  have key : ∀ j, j < 4 → ∀ o, (jm_fk 5)[j]? = some o → defaultValue (t_P j) = (match o with | none => .int 0 | some _ => .null) := by
    intro j hj
    match j, hj with
    | 0, _ => exact fun o h => by cases h; rfl
    | 1, _ => exact fun o h => by cases h; rfl
    | 2, _ => exact fun o h => by cases h; rfl
    | 3, _ => exact fun o h => by cases h; rfl
    | n + 4, h => exact absurd h (by omega)
  exact key j hj o h
theorem ci_M : jm_ci 6 R_M F_M 28 t_M := ⟨by decide, rfl, by decide +kernel, t_M_ok, n_M, rfl, by decide⟩
theorem df_M : ∀ (j : Nat) (o : Option Nat), (jm_fk 6)[j]? = some o → defaultValue (t_M j) = (match o with | none => .int 0 | some _ => .null) := by
  intro j o h
  have hj : j < 28 := (List.getElem?_eq_some_iff.mp h).1
  have key : ∀ j, j < 28 → ∀ o, (jm_fk 6)[j]? = some o → defaultValue (t_M j) = (match o with | none => .int 0 | some _ => .null) := by
    intro j hj
    match j, hj with
    | 0, _ => exact fun o h => by cases h; rfl
    | 1, _ => exact fun o h => by cases h; rfl
    | 2, _ => exact fun o h => by cases h; rfl
    | 3, _ => exact fun o h => by cases h; rfl
    | 4, _ => exact fun o h => by cases h; rfl
    | 5, _ => exact fun o h => by cases h; rfl
    | 6, _ => exact fun o h => by cases h; rfl
    | 7, _ => exact fun o h => by cases h; rfl
    | 8, _ => exact fun o h => by cases h; rfl
    | 9, _ => exact fun o h => by cases h; rfl
    | 10, _ => exact fun o h => by cases h; rfl
    | 11, _ => exact fun o h => by cases h; rfl
    | 12, _ => exact fun o h => by cases h; rfl
    | 13, _ => exact fun o h => by cases h; rfl
    | 14, _ => exact fun o h => by cases h; rfl
    | 15, _ => exact fun o h => by cases h; rfl
    | 16, _ => exact fun o h => by cases h; rfl
    | 17, _ => exact fun o h => by cases h; rfl
    | 18, _ => exact fun o h => by cases h; rfl
    | 19, _ => exact fun o h => by cases h; rfl
    | 20, _ => exact fun o h => by cases h; rfl
    | 21, _ => exact fun o h => by cases h; rfl
    | 22, _ => exact fun o h => by cases h; rfl
    | 23, _ => exact fun o h => by cases h; rfl
    | 24, _ => exact fun o h => by cases h; rfl
    | 25, _ => exact fun o h => by cases h; rfl
    | 26, _ => exact fun o h => by cases h; rfl
    | 27, _ => exact fun o h => by cases h; rfl
    | n + 28, h => exact absurd h (by omega)
  exact key j hj o h
theorem ci_S : jm_ci 7 R_S F_S 1 t_S := ⟨by decide, rfl, by decide +kernel, t_S_ok, n_S, rfl, by decide⟩
theorem df_S : ∀ (j : Nat) (o : Option Nat), (jm_fk 7)[j]? = some o → defaultValue (t_S j) = (match o with | none => .int 0 | some _ => .null) := by
  intro j o h
  have hj : j < 1 := (List.getElem?_eq_some_iff.mp h).1
  have key : ∀ j, j < 1 → ∀ o, (jm_fk 7)[j]? = some o → defaultValue (t_S j) = (match o with | none => .int 0 | some _ => .null) := by
    intro j hj
    match j, hj with
    | 0, _ => exact fun o h => by cases h; rfl
    | n + 1, h => exact absurd h (by omega)
  exact key j hj o h
theorem cw_H_init : jm_cw 0 ∈ jm_tb := jm_in 71 (by decide +kernel) rfl
theorem cw_O_values : jm_cw 1 ∈ jm_tb := jm_in 77 (by decide +kernel) rfl
theorem cw_H_polys : jm_cw 2 ∈ jm_tb := jm_in 90 (by decide +kernel) rfl
theorem cw_P_init : jm_cw 3 ∈ jm_tb := jm_in 96 (by decide +kernel) rfl
theorem cw_G_init : jm_cw 4 ∈ jm_tb := jm_in 126 (by decide +kernel) rfl
theorem cw_F_init : jm_cw 5 ∈ jm_tb := jm_in 132 (by decide +kernel) rfl
theorem cw_E_init : jm_cw 6 ∈ jm_tb := jm_in 155 (by decide +kernel) rfl
theorem cw_H_variables : jm_cw 7 ∈ jm_tb := jm_in 291 (by decide +kernel) rfl
theorem cw_H_order : jm_cw 8 ∈ jm_tb := jm_in 295 (by decide +kernel) rfl
theorem cw_H_order2 : jm_cw 9 ∈ jm_tb := jm_in 299 (by decide +kernel) rfl
theorem cw_P_sort : jm_cw 10 ∈ jm_tb := jm_in 303 (by decide +kernel) rfl
theorem cw_O1_compare : jm_cw 11 ∈ jm_tb := jm_in 309 (by decide +kernel) rfl
theorem cw_O2_compare : jm_cw 12 ∈ jm_tb := jm_in 312 (by decide +kernel) rfl
theorem cw_O_bySum : jm_cw 13 ∈ jm_tb := jm_in 315 (by decide +kernel) rfl
theorem cw_H_exponent : jm_cw 14 ∈ jm_tb := jm_in 318 (by decide +kernel) rfl
theorem cw_O3_compare : jm_cw 15 ∈ jm_tb := jm_in 321 (by decide +kernel) rfl
theorem cw_H_term : jm_cw 16 ∈ jm_tb := jm_in 327 (by decide +kernel) rfl
theorem cw_H_isPlace : jm_cw 17 ∈ jm_tb := jm_in 331 (by decide +kernel) rfl
theorem cw_H_power : jm_cw 18 ∈ jm_tb := jm_in 338 (by decide +kernel) rfl
theorem cw_P_become : jm_cw 19 ∈ jm_tb := jm_in 342 (by decide +kernel) rfl
theorem cw_F_set : jm_cw 20 ∈ jm_tb := jm_in 349 (by decide +kernel) rfl
theorem cw_H_gcd : jm_cw 21 ∈ jm_tb := jm_in 352 (by decide +kernel) rfl
theorem cw_S_init : jm_cw 22 ∈ jm_tb := jm_in 394 (by decide +kernel) rfl
theorem cw_P_come : jm_cw 23 ∈ jm_tb := jm_in 418 (by decide +kernel) rfl
theorem cw_P_insert : jm_cw 24 ∈ jm_tb := jm_in 422 (by decide +kernel) rfl
theorem cw_F_plus : jm_cw 25 ∈ jm_tb := jm_in 428 (by decide +kernel) rfl
theorem cw_P_remove : jm_cw 26 ∈ jm_tb := jm_in 433 (by decide +kernel) rfl
theorem cw_H_give : jm_cw 27 ∈ jm_tb := jm_in 437 (by decide +kernel) rfl
theorem cw_H_zero : jm_cw 28 ∈ jm_tb := jm_in 441 (by decide +kernel) rfl
theorem cw_H_size : jm_cw 29 ∈ jm_tb := jm_in 445 (by decide +kernel) rfl
theorem cw_H_told : jm_cw 30 ∈ jm_tb := jm_in 449 (by decide +kernel) rfl
theorem cw_H_plus : jm_cw 31 ∈ jm_tb := jm_in 454 (by decide +kernel) rfl
theorem cw_P_plus : jm_cw 32 ∈ jm_tb := jm_in 458 (by decide +kernel) rfl
theorem cw_F_times : jm_cw 33 ∈ jm_tb := jm_in 463 (by decide +kernel) rfl
theorem cw_H_times : jm_cw 34 ∈ jm_tb := jm_in 468 (by decide +kernel) rfl
theorem cw_H_multiply : jm_cw 35 ∈ jm_tb := jm_in 472 (by decide +kernel) rfl
theorem cw_H_same : jm_cw 36 ∈ jm_tb := jm_in 476 (by decide +kernel) rfl
theorem cw_P_isSame : jm_cw 37 ∈ jm_tb := jm_in 480 (by decide +kernel) rfl
theorem cw_H_vanishes : jm_cw 38 ∈ jm_tb := jm_in 484 (by decide +kernel) rfl
theorem cw_H_valueIsZero : jm_cw 39 ∈ jm_tb := jm_in 489 (by decide +kernel) rfl
theorem cw_H_generator : jm_cw 40 ∈ jm_tb := jm_in 495 (by decide +kernel) rfl
theorem cw_H_clear : jm_cw 41 ∈ jm_tb := jm_in 499 (by decide +kernel) rfl
theorem cw_H_basis : jm_cw 42 ∈ jm_tb := jm_in 503 (by decide +kernel) rfl
theorem cw_H_isSteps : jm_cw 43 ∈ jm_tb := jm_in 506 (by decide +kernel) rfl
theorem cw_G_begin : jm_cw 44 ∈ jm_tb := jm_in 510 (by decide +kernel) rfl
theorem cw_G_generator : jm_cw 45 ∈ jm_tb := jm_in 514 (by decide +kernel) rfl
theorem cw_E_monic : jm_cw 46 ∈ jm_tb := jm_in 520 (by decide +kernel) rfl
theorem cw_P_scale : jm_cw 47 ∈ jm_tb := jm_in 524 (by decide +kernel) rfl
theorem cw_G_join : jm_cw 48 ∈ jm_tb := jm_in 528 (by decide +kernel) rfl
theorem cw_G_complete : jm_cw 49 ∈ jm_tb := jm_in 532 (by decide +kernel) rfl
theorem cw_G_next : jm_cw 50 ∈ jm_tb := jm_in 536 (by decide +kernel) rfl
theorem cw_G_lead : jm_cw 51 ∈ jm_tb := jm_in 540 (by decide +kernel) rfl
theorem cw_H_common : jm_cw 52 ∈ jm_tb := jm_in 543 (by decide +kernel) rfl
theorem cw_G_isPassed : jm_cw 53 ∈ jm_tb := jm_in 548 (by decide +kernel) rfl
theorem cw_H_divides : jm_cw 54 ∈ jm_tb := jm_in 551 (by decide +kernel) rfl
theorem cw_G_isWaiting : jm_cw 55 ∈ jm_tb := jm_in 555 (by decide +kernel) rfl
theorem cw_G_pair : jm_cw 56 ∈ jm_tb := jm_in 559 (by decide +kernel) rfl
theorem cw_G_divide : jm_cw 57 ∈ jm_tb := jm_in 564 (by decide +kernel) rfl
theorem cw_G_step : jm_cw 58 ∈ jm_tb := jm_in 568 (by decide +kernel) rfl
theorem cw_G_shares : jm_cw 59 ∈ jm_tb := jm_in 580 (by decide +kernel) rfl
theorem cw_G_thin : jm_cw 60 ∈ jm_tb := jm_in 584 (by decide +kernel) rfl
theorem cw_G_swap : jm_cw 61 ∈ jm_tb := jm_in 588 (by decide +kernel) rfl
theorem cw_G_reduce : jm_cw 62 ∈ jm_tb := jm_in 592 (by decide +kernel) rfl
theorem cw_H_done : jm_cw 63 ∈ jm_tb := jm_in 596 (by decide +kernel) rfl
theorem cw_H_element : jm_cw 64 ∈ jm_tb := jm_in 600 (by decide +kernel) rfl
theorem cw_H_isElement : jm_cw 65 ∈ jm_tb := jm_in 604 (by decide +kernel) rfl
theorem cw_H_share : jm_cw 66 ∈ jm_tb := jm_in 608 (by decide +kernel) rfl
theorem cw_H_divide : jm_cw 67 ∈ jm_tb := jm_in 612 (by decide +kernel) rfl
theorem cw_H_certificate : jm_cw 68 ∈ jm_tb := jm_in 617 (by decide +kernel) rfl
theorem cw_H_check : jm_cw 69 ∈ jm_tb := jm_in 621 (by decide +kernel) rfl
theorem cw_H_radical : jm_cw 70 ∈ jm_tb := jm_in 625 (by decide +kernel) rfl
theorem cw_H_free : jm_cw 71 ∈ jm_tb := jm_in 631 (by decide +kernel) rfl
theorem cw_H_stairs : jm_cw 72 ∈ jm_tb := jm_in 635 (by decide +kernel) rfl
theorem cw_H_pure : jm_cw 73 ∈ jm_tb := jm_in 639 (by decide +kernel) rfl
theorem cw_law_cell : jm_cw 74 ∈ jm_tb := jm_in 643 (by decide +kernel) rfl
theorem cw_M_init : jm_cw 75 ∈ jm_tb := jm_in 648 (by decide +kernel) rfl
theorem cw_M_variables : jm_cw 76 ∈ jm_tb := jm_in 739 (by decide +kernel) rfl
theorem cw_M_order : jm_cw 77 ∈ jm_tb := jm_in 743 (by decide +kernel) rfl
theorem cw_M_sorted : jm_cw 78 ∈ jm_tb := jm_in 747 (by decide +kernel) rfl
theorem cw_M_compare : jm_cw 79 ∈ jm_tb := jm_in 751 (by decide +kernel) rfl
theorem cw_M_exponent : jm_cw 80 ∈ jm_tb := jm_in 754 (by decide +kernel) rfl
theorem cw_M_sum : jm_cw 81 ∈ jm_tb := jm_in 758 (by decide +kernel) rfl
theorem cw_M_term : jm_cw 82 ∈ jm_tb := jm_in 762 (by decide +kernel) rfl
theorem cw_M_isPlace : jm_cw 83 ∈ jm_tb := jm_in 765 (by decide +kernel) rfl
theorem cw_M_copy : jm_cw 84 ∈ jm_tb := jm_in 771 (by decide +kernel) rfl
theorem cw_M_lowest : jm_cw 85 ∈ jm_tb := jm_in 775 (by decide +kernel) rfl
theorem cw_M_comes : jm_cw 86 ∈ jm_tb := jm_in 781 (by decide +kernel) rfl
theorem cw_M_taken : jm_cw 87 ∈ jm_tb := jm_in 785 (by decide +kernel) rfl
theorem cw_M_zero : jm_cw 88 ∈ jm_tb := jm_in 789 (by decide +kernel) rfl
theorem cw_M_size : jm_cw 89 ∈ jm_tb := jm_in 793 (by decide +kernel) rfl
theorem cw_M_told : jm_cw 90 ∈ jm_tb := jm_in 797 (by decide +kernel) rfl
theorem cw_M_plus : jm_cw 91 ∈ jm_tb := jm_in 801 (by decide +kernel) rfl
theorem cw_M_adds : jm_cw 92 ∈ jm_tb := jm_in 805 (by decide +kernel) rfl
theorem cw_M_product : jm_cw 93 ∈ jm_tb := jm_in 809 (by decide +kernel) rfl
theorem cw_M_multiplied : jm_cw 94 ∈ jm_tb := jm_in 813 (by decide +kernel) rfl
theorem cw_M_times : jm_cw 95 ∈ jm_tb := jm_in 817 (by decide +kernel) rfl
theorem cw_M_made : jm_cw 96 ∈ jm_tb := jm_in 821 (by decide +kernel) rfl
theorem cw_M_same : jm_cw 97 ∈ jm_tb := jm_in 825 (by decide +kernel) rfl
theorem cw_M_isSame : jm_cw 98 ∈ jm_tb := jm_in 829 (by decide +kernel) rfl
theorem cw_M_vanishes : jm_cw 99 ∈ jm_tb := jm_in 833 (by decide +kernel) rfl
theorem cw_M_generator : jm_cw 100 ∈ jm_tb := jm_in 837 (by decide +kernel) rfl
theorem cw_M_clear : jm_cw 101 ∈ jm_tb := jm_in 841 (by decide +kernel) rfl
theorem cw_M_basis : jm_cw 102 ∈ jm_tb := jm_in 845 (by decide +kernel) rfl
theorem cw_M_make : jm_cw 103 ∈ jm_tb := jm_in 849 (by decide +kernel) rfl
theorem cw_M_cofactor : jm_cw 104 ∈ jm_tb := jm_in 853 (by decide +kernel) rfl
theorem cw_M_monic : jm_cw 105 ∈ jm_tb := jm_in 857 (by decide +kernel) rfl
theorem cw_M_scaled : jm_cw 106 ∈ jm_tb := jm_in 861 (by decide +kernel) rfl
theorem cw_M_addPairs : jm_cw 107 ∈ jm_tb := jm_in 865 (by decide +kernel) rfl
theorem cw_M_onePair : jm_cw 108 ∈ jm_tb := jm_in 869 (by decide +kernel) rfl
theorem cw_M_lead : jm_cw 109 ∈ jm_tb := jm_in 873 (by decide +kernel) rfl
theorem cw_M_common : jm_cw 110 ∈ jm_tb := jm_in 877 (by decide +kernel) rfl
theorem cw_M_isPassed : jm_cw 111 ∈ jm_tb := jm_in 881 (by decide +kernel) rfl
theorem cw_M_divides : jm_cw 112 ∈ jm_tb := jm_in 885 (by decide +kernel) rfl
theorem cw_M_isWaiting : jm_cw 113 ∈ jm_tb := jm_in 889 (by decide +kernel) rfl
theorem cw_M_divided : jm_cw 114 ∈ jm_tb := jm_in 893 (by decide +kernel) rfl
theorem cw_M_lessShares : jm_cw 115 ∈ jm_tb := jm_in 897 (by decide +kernel) rfl
theorem cw_M_clean : jm_cw 116 ∈ jm_tb := jm_in 901 (by decide +kernel) rfl
theorem cw_M_move : jm_cw 117 ∈ jm_tb := jm_in 905 (by decide +kernel) rfl
theorem cw_M_reduce : jm_cw 118 ∈ jm_tb := jm_in 909 (by decide +kernel) rfl
theorem cw_M_done : jm_cw 119 ∈ jm_tb := jm_in 913 (by decide +kernel) rfl
theorem cw_M_element : jm_cw 120 ∈ jm_tb := jm_in 917 (by decide +kernel) rfl
theorem cw_M_share : jm_cw 121 ∈ jm_tb := jm_in 921 (by decide +kernel) rfl
theorem cw_M_divide : jm_cw 122 ∈ jm_tb := jm_in 925 (by decide +kernel) rfl
theorem cw_M_own : jm_cw 123 ∈ jm_tb := jm_in 929 (by decide +kernel) rfl
theorem cw_M_certificate : jm_cw 124 ∈ jm_tb := jm_in 933 (by decide +kernel) rfl
theorem cw_M_check : jm_cw 125 ∈ jm_tb := jm_in 937 (by decide +kernel) rfl
theorem cw_M_radical : jm_cw 126 ∈ jm_tb := jm_in 941 (by decide +kernel) rfl
theorem cw_M_free : jm_cw 127 ∈ jm_tb := jm_in 945 (by decide +kernel) rfl
theorem cw_M_stairs : jm_cw 128 ∈ jm_tb := jm_in 949 (by decide +kernel) rfl
theorem cw_M_isStair : jm_cw 129 ∈ jm_tb := jm_in 953 (by decide +kernel) rfl
theorem jm_sk : jm_stopOk := by
  refine ⟨ci_S, fun id h hh => ?_⟩
  have hid : id < 131 := by
    rcases Nat.lt_or_ge id 131 with q | q
    · exact q
    · exfalso
      have : mH id = [] := by
        show (jm_ms.getD id _).2.2.2.2 = []
        rw [List.getD_eq_getElem?_getD, List.getElem?_eq_none (by exact q)]
        rfl
      rw [this] at hh
      cases hh
  have key : ∀ id, id < 131 → ∀ h ∈ mH id, h.2.2.2 = 134 ∧ (mY id).cls = "IdealProver" := by decide +kernel
  obtain ⟨e1, e2⟩ := key id hid h hh
  rw [e1, e2]
  exact ⟨by decide, jm_in 328 (by decide +kernel) rfl⟩
