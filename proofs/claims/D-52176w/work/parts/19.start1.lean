set_option maxRecDepth 100000
/-! THE START: the world of the law (printed by genstart2.py) -/
theorem q141 : (Jvm.Cond.instantiable "DebateHall" (4 : Nat)) ∈ lw_all := lw_g (lw_at lw_m1 61 rfl) rfl
theorem q149 : (Jvm.Cond.instantiable "DebateHall$Tape" (2 : Nat)) ∈ lw_all := lw_g (lw_at lw_m1 69 rfl) rfl
theorem q165 : (Jvm.Cond.instantiable "DebateHall$Minutes" (8 : Nat)) ∈ lw_all := lw_g (lw_at lw_m1 85 rfl) rfl
theorem q322 : (Jvm.Cond.instantiable "DebateHall$Reader" (3 : Nat)) ∈ lw_all := lw_g (lw_at lw_m2 2 rfl) rfl
theorem q324 : (Jvm.Cond.instantiable "DebateHall$Scanner" (2 : Nat)) ∈ lw_all := lw_g (lw_at lw_m2 4 rfl) rfl
theorem q358 : (Jvm.Cond.instantiable "DebateHall$Token" (3 : Nat)) ∈ lw_all := lw_g (lw_at lw_m2 38 rfl) rfl
theorem q916 : (Jvm.Cond.instantiable "DebateHall$Fault" (8 : Nat)) ∈ lw_all := lw_g (lw_at lw_m4 116 rfl) rfl
theorem q942 : (Jvm.Cond.instantiable "DebateHall$Seat" (3 : Nat)) ∈ lw_all := lw_g (lw_at lw_m4 142 rfl) rfl
theorem q974 : (Jvm.Cond.instantiable "DebateHall$Claim" (4 : Nat)) ∈ lw_all := lw_g (lw_at lw_m4 174 rfl) rfl
theorem q1007 : (Jvm.Cond.instantiable "DebateHall$Several" (2 : Nat)) ∈ lw_all := lw_g (lw_at lw_m4 207 rfl) rfl
theorem q1039 : (Jvm.Cond.instantiable "DebateHall$Denied" (1 : Nat)) ∈ lw_all := lw_g (lw_at lw_m4 239 rfl) rfl
theorem q1055 : (Jvm.Cond.instantiable "DebateHall$Asked" (2 : Nat)) ∈ lw_all := lw_g (lw_at lw_m5 15 rfl) rfl
theorem q1092 : (Jvm.Cond.instantiable "DebateHall$Thrust" (7 : Nat)) ∈ lw_all := lw_g (lw_at lw_m5 52 rfl) rfl
theorem q1123 : (Jvm.Cond.instantiable "DebateHall$Turn" (3 : Nat)) ∈ lw_all := lw_g (lw_at lw_m5 83 rfl) rfl
theorem q1191 : (Jvm.Cond.instantiable "DebateHall$Speaker" (3 : Nat)) ∈ lw_all := lw_g (lw_at lw_m5 151 rfl) rfl
theorem q1729 : (Jvm.Cond.instantiable "DebateHall$Item" (8 : Nat)) ∈ lw_all := lw_g (lw_at lw_m7 209 rfl) rfl
theorem q2376 : (Jvm.Cond.instantiable "DebateHallModel" (24 : Nat)) ∈ lw_all := lw_g (lw_at lw_m10 136 rfl) rfl
theorem q2382 : (Jvm.Cond.instantiable "DebateHallModel$State" (12 : Nat)) ∈ lw_all := lw_g (lw_at lw_m10 142 rfl) rfl
theorem q171 : (Jvm.Cond.instantiable "java/util/ArrayList" (3 : Nat)) ∈ lw_all := lw_g (lw_at lw_m1 91 rfl) rfl
theorem q200 : (Jvm.Cond.instantiable "java/util/HashMap" (8 : Nat)) ∈ lw_all := lw_g (lw_at lw_m1 120 rfl) rfl
theorem q272 : (Jvm.Cond.instantiable "java/lang/StringBuilder" (4 : Nat)) ∈ lw_all := lw_g (lw_at lw_m1 192 rfl) rfl
theorem q500 : (Jvm.Cond.instantiable "java/lang/String" (4 : Nat)) ∈ lw_all := lw_g (lw_at lw_m2 180 rfl) rfl
theorem q1074 : (Jvm.Cond.instantiable "java/util/Optional" (1 : Nat)) ∈ lw_all := lw_g (lw_at lw_m5 34 rfl) rfl
theorem q1149 : (Jvm.Cond.instantiable "java/util/ArrayList$Itr" (4 : Nat)) ∈ lw_all := lw_g (lw_at lw_m5 109 rfl) rfl
theorem q1348 : (Jvm.Cond.instantiable "java/util/HashMap$Node" (4 : Nat)) ∈ lw_all := lw_g (lw_at lw_m6 68 rfl) rfl
theorem q1677 : (Jvm.Cond.instantiable "java/util/HashMap$TreeNode" (11 : Nat)) ∈ lw_all := lw_g (lw_at lw_m7 157 rfl) rfl
theorem q2225 : (Jvm.Cond.instantiable "java/lang/IllegalStateException" (6 : Nat)) ∈ lw_all := lw_g (lw_at lw_m9 225 rfl) rfl
theorem q532 : (Jvm.Cond.instantiable "java/lang/IllegalArgumentException" (6 : Nat)) ∈ lw_all := lw_g (lw_at lw_m2 212 rfl) rfl
theorem q2136 : (Jvm.Cond.instantiable "java/lang/IndexOutOfBoundsException" (6 : Nat)) ∈ lw_all := lw_g (lw_at lw_m9 136 rfl) rfl
theorem q183 : (Jvm.Cond.laysStatic "java/util/ArrayList" "DEFAULTCAPACITY_EMPTY_ELEMENTDATA" "[Ljava/lang/Object;") ∈ lw_tbl := lw_at lw_m1 103 rfl
theorem q86 : (Jvm.Cond.initialized "java/util/ArrayList") ∈ lw_all := lw_g (lw_at lw_m1 6 rfl) rfl
theorem q719 : (Jvm.Cond.laysStatic "DebateHall$Sort" "NAME" "LDebateHall$Sort;") ∈ lw_tbl := lw_at lw_m3 159 rfl
theorem q104 : (Jvm.Cond.initialized "DebateHall$Sort") ∈ lw_all := lw_g (lw_at lw_m1 24 rfl) rfl
theorem q717 : (Jvm.Cond.laysStatic "DebateHall$Sort" "KEY" "LDebateHall$Sort;") ∈ lw_tbl := lw_at lw_m3 157 rfl
theorem q721 : (Jvm.Cond.laysStatic "DebateHall$Sort" "NUMBER" "LDebateHall$Sort;") ∈ lw_tbl := lw_at lw_m3 161 rfl
theorem q774 : (Jvm.Cond.laysStatic "DebateHall$Sort" "SYMBOL" "LDebateHall$Sort;") ∈ lw_tbl := lw_at lw_m3 214 rfl
theorem q845 : (Jvm.Cond.laysStatic "DebateHall$Sort" "END" "LDebateHall$Sort;") ∈ lw_tbl := lw_at lw_m4 45 rfl
theorem q360 : (Jvm.Cond.laysStatic "DebateHall$Sort" "BAD" "LDebateHall$Sort;") ∈ lw_tbl := lw_at lw_m2 40 rfl
theorem q707 : (Jvm.Cond.laysStatic "DebateHall$Scanner" "KEYS" "[Ljava/lang/String;") ∈ lw_tbl := lw_at lw_m3 147 rfl
theorem q101 : (Jvm.Cond.initialized "DebateHall$Scanner") ∈ lw_all := lw_g (lw_at lw_m1 21 rfl) rfl
theorem q1829 : (Jvm.Cond.laysStatic "DebateHall$Kind" "CLAIM" "LDebateHall$Kind;") ∈ lw_tbl := lw_at lw_m8 69 rfl
theorem q119 : (Jvm.Cond.initialized "DebateHall$Kind") ∈ lw_all := lw_g (lw_at lw_m1 39 rfl) rfl
theorem q993 : (Jvm.Cond.laysStatic "DebateHall$Kind" "ATTACK" "LDebateHall$Kind;") ∈ lw_tbl := lw_at lw_m4 193 rfl
theorem q1119 : (Jvm.Cond.laysStatic "DebateHall$Kind" "SUPPORT" "LDebateHall$Kind;") ∈ lw_tbl := lw_at lw_m5 79 rfl
theorem q1090 : (Jvm.Cond.laysStatic "java/util/Optional" "EMPTY" "Ljava/util/Optional;") ∈ lw_tbl := lw_at lw_m5 50 rfl
theorem q124 : (Jvm.Cond.initialized "java/util/Optional") ∈ lw_all := lw_g (lw_at lw_m1 44 rfl) rfl
theorem q1457 : (Jvm.Cond.laysStatic "jdk/internal/util/ArraysSupport" "U" "Ljdk/internal/misc/Unsafe;") ∈ lw_tbl := lw_at lw_m6 177 rfl
theorem q105 : (Jvm.Cond.initialized "jdk/internal/util/ArraysSupport") ∈ lw_all := lw_g (lw_at lw_m1 25 rfl) rfl
theorem q2585 : (Jvm.Cond.laysStatic "DebateHallModel" "KEYS" "[J") ∈ lw_tbl := lw_at lw_m11 105 rfl
theorem q93 : (Jvm.Cond.initialized "DebateHallModel") ∈ lw_all := lw_g (lw_at lw_m1 13 rfl) rfl
theorem q281 : (Jvm.Cond.laysStatic "java/lang/String" "COMPACT_STRINGS" "Z") ∈ lw_tbl := lw_at lw_m1 201 rfl
theorem q91 : (Jvm.Cond.initialized "java/lang/String") ∈ lw_all := lw_g (lw_at lw_m1 11 rfl) rfl
theorem q478 : (Jvm.Cond.laysStatic "java/lang/StringUTF16" "$assertionsDisabled" "Z") ∈ lw_tbl := lw_at lw_m2 158 rfl
theorem q92 : (Jvm.Cond.initialized "java/lang/StringUTF16") ∈ lw_all := lw_g (lw_at lw_m1 12 rfl) rfl
theorem q480 : (Jvm.Cond.laysStatic "java/lang/StringUTF16" "HI_BYTE_SHIFT" "I") ∈ lw_tbl := lw_at lw_m2 160 rfl
theorem q482 : (Jvm.Cond.laysStatic "java/lang/StringUTF16" "LO_BYTE_SHIFT" "I") ∈ lw_tbl := lw_at lw_m2 162 rfl
theorem q1448 : (Jvm.Cond.laysStatic "jdk/internal/misc/Unsafe" "ARRAY_BYTE_BASE_OFFSET" "I") ∈ lw_tbl := lw_at lw_m6 168 rfl
theorem q130 : (Jvm.Cond.initialized "jdk/internal/misc/Unsafe") ∈ lw_all := lw_g (lw_at lw_m1 50 rfl) rfl
theorem q1450 : (Jvm.Cond.laysStatic "jdk/internal/util/ArraysSupport" "LOG2_ARRAY_BYTE_INDEX_SCALE" "I") ∈ lw_tbl := lw_at lw_m6 170 rfl
theorem q1455 : (Jvm.Cond.laysStatic "jdk/internal/util/ArraysSupport" "LOG2_ARRAY_LONG_INDEX_SCALE" "I") ∈ lw_tbl := lw_at lw_m6 175 rfl
theorem q1484 : (Jvm.Cond.laysStatic "jdk/internal/misc/UnsafeConstants" "BIG_ENDIAN" "Z") ∈ lw_tbl := lw_at lw_m6 204 rfl
theorem q131 : (Jvm.Cond.initialized "jdk/internal/misc/UnsafeConstants") ∈ lw_all := lw_g (lw_at lw_m1 51 rfl) rfl
theorem q1511 : (Jvm.Cond.laysStatic "jdk/internal/util/ArraysSupport" "BIG_ENDIAN" "Z") ∈ lw_tbl := lw_at lw_m6 231 rfl
theorem q1520 : (Jvm.Cond.laysStatic "jdk/internal/util/ArraysSupport" "LOG2_BYTE_BIT_SIZE" "I") ∈ lw_tbl := lw_at lw_m7 0 rfl
theorem q1528 : (Jvm.Cond.laysStatic "jdk/internal/util/ArraysSupport" "LOG2_ARRAY_INT_INDEX_SCALE" "I") ∈ lw_tbl := lw_at lw_m7 8 rfl
theorem q1617 : (Jvm.Cond.laysStatic "java/util/HashMap$TreeNode" "$assertionsDisabled" "Z") ∈ lw_tbl := lw_at lw_m7 97 rfl
theorem q134 : (Jvm.Cond.initialized "java/util/HashMap$TreeNode") ∈ lw_all := lw_g (lw_at lw_m1 54 rfl) rfl
theorem q470 : (Jvm.Cond.laysStatic "jdk/internal/util/Preconditions" "SIOOBE_FORMATTER" "Ljava/util/function/BiFunction;") ∈ lw_tbl := lw_at lw_m2 150 rfl
theorem q110 : (Jvm.Cond.initialized "jdk/internal/util/Preconditions") ∈ lw_all := lw_g (lw_at lw_m1 30 rfl) rfl
theorem q361 : (Jvm.Cond.stringRef "DebateHall$Scanner" (75 : Nat) "") ∈ lw_tbl := lw_at lw_m2 41 rfl
theorem q611 : (Jvm.Cond.stringRef "java/util/Arrays" (337 : Nat) " > ") ∈ lw_tbl := lw_at lw_m3 51 rfl
theorem q2076 : (Jvm.Cond.stringRef "java/util/Arrays" (59 : Nat) ")") ∈ lw_tbl := lw_at lw_m9 76 rfl
theorem q2075 : (Jvm.Cond.stringRef "java/util/Arrays" (57 : Nat) ") > toIndex(") ∈ lw_tbl := lw_at lw_m9 75 rfl
theorem q1137 : (Jvm.Cond.stringRef "DebateHall$Reader" (73 : Nat) ";") ∈ lw_tbl := lw_at lw_m5 97 rfl
theorem q2093 : (Jvm.Cond.stringRef "java/lang/ArrayIndexOutOfBoundsException" (13 : Nat) "Array index out of range: ") ∈ lw_tbl := lw_at lw_m9 93 rfl
theorem q2050 : (Jvm.Cond.stringRef "java/lang/StringIndexOutOfBoundsException" (13 : Nat) "String index out of range: ") ∈ lw_tbl := lw_at lw_m9 50 rfl
theorem q1048 : (Jvm.Cond.stringRef "DebateHall$Reader" (200 : Nat) "[") ∈ lw_tbl := lw_at lw_m5 8 rfl
theorem q722 : (Jvm.Cond.stringRef "DebateHall$Scanner" (104 : Nat) "[];") ∈ lw_tbl := lw_at lw_m3 162 rfl
theorem q1049 : (Jvm.Cond.stringRef "DebateHall$Reader" (202 : Nat) "]") ∈ lw_tbl := lw_at lw_m5 9 rfl
theorem q1068 : (Jvm.Cond.stringRef "DebateHall$Reader" (188 : Nat) "and") ∈ lw_tbl := lw_at lw_m5 28 rfl
theorem q2966 : (Jvm.Cond.stringRef "DebateHall$Scanner" (150 : Nat) "and") ∈ lw_tbl := lw_at lw_m13 6 rfl
theorem q2624 : (Jvm.Cond.stringRef "DebateHallModel" (237 : Nat) "and") ∈ lw_tbl := lw_at lw_m11 144 rfl
theorem q991 : (Jvm.Cond.stringRef "DebateHall$Reader" (116 : Nat) "attack") ∈ lw_tbl := lw_at lw_m4 191 rfl
theorem q2952 : (Jvm.Cond.stringRef "DebateHall$Scanner" (122 : Nat) "attack") ∈ lw_tbl := lw_at lw_m12 232 rfl
theorem q2594 : (Jvm.Cond.stringRef "DebateHallModel" (205 : Nat) "attack") ∈ lw_tbl := lw_at lw_m11 114 rfl
theorem q968 : (Jvm.Cond.stringRef "DebateHall$Reader" (107 : Nat) "by") ∈ lw_tbl := lw_at lw_m4 168 rfl
theorem q2950 : (Jvm.Cond.stringRef "DebateHall$Scanner" (118 : Nat) "by") ∈ lw_tbl := lw_at lw_m12 230 rfl
theorem q2592 : (Jvm.Cond.stringRef "DebateHallModel" (202 : Nat) "by") ∈ lw_tbl := lw_at lw_m11 112 rfl
theorem q967 : (Jvm.Cond.stringRef "DebateHall$Reader" (105 : Nat) "claim") ∈ lw_tbl := lw_at lw_m4 167 rfl
theorem q2949 : (Jvm.Cond.stringRef "DebateHall$Scanner" (116 : Nat) "claim") ∈ lw_tbl := lw_at lw_m12 229 rfl
theorem q2591 : (Jvm.Cond.stringRef "DebateHallModel" (200 : Nat) "claim") ∈ lw_tbl := lw_at lw_m11 111 rfl
theorem q1121 : (Jvm.Cond.stringRef "DebateHall$Reader" (137 : Nat) "concede") ∈ lw_tbl := lw_at lw_m5 81 rfl
theorem q2959 : (Jvm.Cond.stringRef "DebateHall$Scanner" (136 : Nat) "concede") ∈ lw_tbl := lw_at lw_m12 239 rfl
theorem q2628 : (Jvm.Cond.stringRef "DebateHallModel" (218 : Nat) "concede") ∈ lw_tbl := lw_at lw_m11 148 rfl
theorem q1977 : (Jvm.Cond.stringRef "DebateHall$Asked" (42 : Nat) "conceded") ∈ lw_tbl := lw_at lw_m8 217 rfl
theorem q1053 : (Jvm.Cond.stringRef "DebateHall$Reader" (210 : Nat) "conceded") ∈ lw_tbl := lw_at lw_m5 13 rfl
theorem q2964 : (Jvm.Cond.stringRef "DebateHall$Scanner" (146 : Nat) "conceded") ∈ lw_tbl := lw_at lw_m13 4 rfl
theorem q2623 : (Jvm.Cond.stringRef "DebateHallModel" (251 : Nat) "conceded") ∈ lw_tbl := lw_at lw_m11 143 rfl
theorem q1120 : (Jvm.Cond.stringRef "DebateHall$Reader" (135 : Nat) "for") ∈ lw_tbl := lw_at lw_m5 80 rfl
theorem q2956 : (Jvm.Cond.stringRef "DebateHall$Scanner" (130 : Nat) "for") ∈ lw_tbl := lw_at lw_m12 236 rfl
theorem q2627 : (Jvm.Cond.stringRef "DebateHallModel" (216 : Nat) "for") ∈ lw_tbl := lw_at lw_m11 147 rfl
theorem q1000 : (Jvm.Cond.stringRef "DebateHall$Reader" (148 : Nat) "force") ∈ lw_tbl := lw_at lw_m4 200 rfl
theorem q2957 : (Jvm.Cond.stringRef "DebateHall$Scanner" (132 : Nat) "force") ∈ lw_tbl := lw_at lw_m12 237 rfl
theorem q2601 : (Jvm.Cond.stringRef "DebateHallModel" (222 : Nat) "force") ∈ lw_tbl := lw_at lw_m11 121 rfl
theorem q999 : (Jvm.Cond.stringRef "DebateHall$Reader" (146 : Nat) "from") ∈ lw_tbl := lw_at lw_m4 199 rfl
theorem q2954 : (Jvm.Cond.stringRef "DebateHall$Scanner" (126 : Nat) "from") ∈ lw_tbl := lw_at lw_m12 234 rfl
theorem q2595 : (Jvm.Cond.stringRef "DebateHallModel" (207 : Nat) "from") ∈ lw_tbl := lw_at lw_m11 115 rfl
theorem q2074 : (Jvm.Cond.stringRef "java/util/Arrays" (48 : Nat) "fromIndex(") ∈ lw_tbl := lw_at lw_m9 74 rfl
theorem q1001 : (Jvm.Cond.stringRef "DebateHall$Reader" (150 : Nat) "if") ∈ lw_tbl := lw_at lw_m4 201 rfl
theorem q2958 : (Jvm.Cond.stringRef "DebateHall$Scanner" (134 : Nat) "if") ∈ lw_tbl := lw_at lw_m12 238 rfl
theorem q2602 : (Jvm.Cond.stringRef "DebateHallModel" (224 : Nat) "if") ∈ lw_tbl := lw_at lw_m11 122 rfl
theorem q1983 : (Jvm.Cond.stringRef "DebateHall$Minutes" (168 : Nat) "in") ∈ lw_tbl := lw_at lw_m8 223 rfl
theorem q1050 : (Jvm.Cond.stringRef "DebateHall$Reader" (204 : Nat) "in") ∈ lw_tbl := lw_at lw_m5 10 rfl
theorem q2961 : (Jvm.Cond.stringRef "DebateHall$Scanner" (140 : Nat) "in") ∈ lw_tbl := lw_at lw_m13 1 rfl
theorem q2620 : (Jvm.Cond.stringRef "DebateHallModel" (245 : Nat) "in") ∈ lw_tbl := lw_at lw_m11 140 rfl
theorem q1033 : (Jvm.Cond.stringRef "DebateHall$Reader" (190 : Nat) "not") ∈ lw_tbl := lw_at lw_m4 233 rfl
theorem q2965 : (Jvm.Cond.stringRef "DebateHall$Scanner" (148 : Nat) "not") ∈ lw_tbl := lw_at lw_m13 5 rfl
theorem q2615 : (Jvm.Cond.stringRef "DebateHallModel" (239 : Nat) "not") ∈ lw_tbl := lw_at lw_m11 135 rfl
theorem q994 : (Jvm.Cond.stringRef "DebateHall$Reader" (124 : Nat) "on") ∈ lw_tbl := lw_at lw_m4 194 rfl
theorem q2955 : (Jvm.Cond.stringRef "DebateHall$Scanner" (128 : Nat) "on") ∈ lw_tbl := lw_at lw_m12 235 rfl
theorem q2596 : (Jvm.Cond.stringRef "DebateHallModel" (209 : Nat) "on") ∈ lw_tbl := lw_at lw_m11 116 rfl
theorem q1985 : (Jvm.Cond.stringRef "DebateHall$Minutes" (172 : Nat) "open") ∈ lw_tbl := lw_at lw_m8 225 rfl
theorem q1052 : (Jvm.Cond.stringRef "DebateHall$Reader" (208 : Nat) "open") ∈ lw_tbl := lw_at lw_m5 12 rfl
theorem q2963 : (Jvm.Cond.stringRef "DebateHall$Scanner" (144 : Nat) "open") ∈ lw_tbl := lw_at lw_m13 3 rfl
theorem q2622 : (Jvm.Cond.stringRef "DebateHallModel" (249 : Nat) "open") ∈ lw_tbl := lw_at lw_m11 142 rfl
theorem q1069 : (Jvm.Cond.stringRef "DebateHall$Reader" (183 : Nat) "or") ∈ lw_tbl := lw_at lw_m5 29 rfl
theorem q2967 : (Jvm.Cond.stringRef "DebateHall$Scanner" (152 : Nat) "or") ∈ lw_tbl := lw_at lw_m13 7 rfl
theorem q2625 : (Jvm.Cond.stringRef "DebateHallModel" (232 : Nat) "or") ∈ lw_tbl := lw_at lw_m11 145 rfl
theorem q1984 : (Jvm.Cond.stringRef "DebateHall$Minutes" (170 : Nat) "out") ∈ lw_tbl := lw_at lw_m8 224 rfl
theorem q1051 : (Jvm.Cond.stringRef "DebateHall$Reader" (206 : Nat) "out") ∈ lw_tbl := lw_at lw_m5 11 rfl
theorem q2962 : (Jvm.Cond.stringRef "DebateHall$Scanner" (142 : Nat) "out") ∈ lw_tbl := lw_at lw_m13 2 rfl
theorem q2621 : (Jvm.Cond.stringRef "DebateHallModel" (247 : Nat) "out") ∈ lw_tbl := lw_at lw_m11 141 rfl
theorem q1136 : (Jvm.Cond.stringRef "DebateHall$Reader" (144 : Nat) "recall") ∈ lw_tbl := lw_at lw_m5 96 rfl
theorem q2960 : (Jvm.Cond.stringRef "DebateHall$Scanner" (138 : Nat) "recall") ∈ lw_tbl := lw_at lw_m13 0 rfl
theorem q2629 : (Jvm.Cond.stringRef "DebateHallModel" (220 : Nat) "recall") ∈ lw_tbl := lw_at lw_m11 149 rfl
theorem q894 : (Jvm.Cond.stringRef "DebateHall$Reader" (89 : Nat) "speaker") ∈ lw_tbl := lw_at lw_m4 94 rfl
theorem q2947 : (Jvm.Cond.stringRef "DebateHall$Scanner" (112 : Nat) "speaker") ∈ lw_tbl := lw_at lw_m12 227 rfl
theorem q2559 : (Jvm.Cond.stringRef "DebateHallModel" (187 : Nat) "speaker") ∈ lw_tbl := lw_at lw_m11 79 rfl
theorem q1117 : (Jvm.Cond.stringRef "DebateHall$Reader" (130 : Nat) "support") ∈ lw_tbl := lw_at lw_m5 77 rfl
theorem q2953 : (Jvm.Cond.stringRef "DebateHall$Scanner" (124 : Nat) "support") ∈ lw_tbl := lw_at lw_m12 233 rfl
theorem q2626 : (Jvm.Cond.stringRef "DebateHallModel" (214 : Nat) "support") ∈ lw_tbl := lw_at lw_m11 146 rfl
theorem q943 : (Jvm.Cond.stringRef "DebateHall$Reader" (96 : Nat) "time") ∈ lw_tbl := lw_at lw_m4 143 rfl
theorem q2948 : (Jvm.Cond.stringRef "DebateHall$Scanner" (114 : Nat) "time") ∈ lw_tbl := lw_at lw_m12 228 rfl
theorem q2586 : (Jvm.Cond.stringRef "DebateHallModel" (196 : Nat) "time") ∈ lw_tbl := lw_at lw_m11 106 rfl
theorem q1307 : (Jvm.Cond.stringRef "jdk/internal/util/ArraysSupport" (92 : Nat) "unrecognized basic type: ") ∈ lw_tbl := lw_at lw_m6 27 rfl
theorem q975 : (Jvm.Cond.stringRef "DebateHall$Reader" (111 : Nat) "weight") ∈ lw_tbl := lw_at lw_m4 175 rfl
theorem q2951 : (Jvm.Cond.stringRef "DebateHall$Scanner" (120 : Nat) "weight") ∈ lw_tbl := lw_at lw_m12 231 rfl
theorem q2593 : (Jvm.Cond.stringRef "DebateHallModel" (203 : Nat) "weight") ∈ lw_tbl := lw_at lw_m11 113 rfl
theorem q873 : (Jvm.Cond.declares ({ cls := "java/util/List", name := "get", desc := "(I)Ljava/lang/Object;" } : Jvm.MethodName)) ∈ lw_tbl := lw_at lw_m4 73 rfl
theorem q872 : (Jvm.Cond.interfaceMethod "java/util/List" "java/util/List" "get" "(I)Ljava/lang/Object;") ∈ lw_tbl := lw_at lw_m4 72 rfl
theorem q878 : (Jvm.Cond.publicMethod ({ cls := "java/util/ArrayList", name := "get", desc := "(I)Ljava/lang/Object;" } : Jvm.MethodName)) ∈ lw_tbl := lw_at lw_m4 78 rfl
theorem q876 : (Jvm.Cond.unhidden "java/util/ArrayList" "get" "(I)Ljava/lang/Object;") ∈ lw_tbl := lw_at lw_m4 76 rfl
theorem q874 : (Jvm.Cond.castable "java/util/ArrayList" "java/util/List") ∈ lw_tbl := lw_at lw_m4 74 rfl
theorem q1788 : (Jvm.Cond.declares ({ cls := "java/util/List", name := "iterator", desc := "()Ljava/util/Iterator;" } : Jvm.MethodName)) ∈ lw_tbl := lw_at lw_m8 28 rfl
theorem q1787 : (Jvm.Cond.interfaceMethod "java/util/List" "java/util/List" "iterator" "()Ljava/util/Iterator;") ∈ lw_tbl := lw_at lw_m8 27 rfl
theorem q1791 : (Jvm.Cond.publicMethod ({ cls := "java/util/ArrayList", name := "iterator", desc := "()Ljava/util/Iterator;" } : Jvm.MethodName)) ∈ lw_tbl := lw_at lw_m8 31 rfl
theorem q1790 : (Jvm.Cond.unhidden "java/util/ArrayList" "iterator" "()Ljava/util/Iterator;") ∈ lw_tbl := lw_at lw_m8 30 rfl
theorem q1170 : (Jvm.Cond.declares ({ cls := "java/util/Iterator", name := "hasNext", desc := "()Z" } : Jvm.MethodName)) ∈ lw_tbl := lw_at lw_m5 130 rfl
theorem q1169 : (Jvm.Cond.interfaceMethod "java/util/Iterator" "java/util/Iterator" "hasNext" "()Z") ∈ lw_tbl := lw_at lw_m5 129 rfl
theorem q1175 : (Jvm.Cond.publicMethod ({ cls := "java/util/ArrayList$Itr", name := "hasNext", desc := "()Z" } : Jvm.MethodName)) ∈ lw_tbl := lw_at lw_m5 135 rfl
theorem q1173 : (Jvm.Cond.unhidden "java/util/ArrayList$Itr" "hasNext" "()Z") ∈ lw_tbl := lw_at lw_m5 133 rfl
theorem q1171 : (Jvm.Cond.castable "java/util/ArrayList$Itr" "java/util/Iterator") ∈ lw_tbl := lw_at lw_m5 131 rfl
theorem q1180 : (Jvm.Cond.declares ({ cls := "java/util/Iterator", name := "next", desc := "()Ljava/lang/Object;" } : Jvm.MethodName)) ∈ lw_tbl := lw_at lw_m5 140 rfl
theorem q1179 : (Jvm.Cond.interfaceMethod "java/util/Iterator" "java/util/Iterator" "next" "()Ljava/lang/Object;") ∈ lw_tbl := lw_at lw_m5 139 rfl
theorem q1184 : (Jvm.Cond.publicMethod ({ cls := "java/util/ArrayList$Itr", name := "next", desc := "()Ljava/lang/Object;" } : Jvm.MethodName)) ∈ lw_tbl := lw_at lw_m5 144 rfl
theorem q1182 : (Jvm.Cond.unhidden "java/util/ArrayList$Itr" "next" "()Ljava/lang/Object;") ∈ lw_tbl := lw_at lw_m5 142 rfl
theorem q1281 : (Jvm.Cond.declares ({ cls := "jdk/internal/access/JavaLangAccess", name := "getUTF16Char", desc := "([BI)C" } : Jvm.MethodName)) ∈ lw_tbl := lw_at lw_m6 1 rfl
theorem q1280 : (Jvm.Cond.interfaceMethod "jdk/internal/access/JavaLangAccess" "jdk/internal/access/JavaLangAccess" "getUTF16Char" "([BI)C") ∈ lw_tbl := lw_at lw_m6 0 rfl
theorem q1286 : (Jvm.Cond.publicMethod ({ cls := "java/lang/System$2", name := "getUTF16Char", desc := "([BI)C" } : Jvm.MethodName)) ∈ lw_tbl := lw_at lw_m6 6 rfl
theorem q1284 : (Jvm.Cond.unhidden "java/lang/System$2" "getUTF16Char" "([BI)C") ∈ lw_tbl := lw_at lw_m6 4 rfl
theorem q1282 : (Jvm.Cond.castable "java/lang/System$2" "jdk/internal/access/JavaLangAccess") ∈ lw_tbl := lw_at lw_m6 2 rfl
theorem q1394 : (Jvm.Cond.declares ({ cls := "java/lang/Comparable", name := "compareTo", desc := "(Ljava/lang/Object;)I" } : Jvm.MethodName)) ∈ lw_tbl := lw_at lw_m6 114 rfl
theorem q1393 : (Jvm.Cond.interfaceMethod "java/lang/Comparable" "java/lang/Comparable" "compareTo" "(Ljava/lang/Object;)I") ∈ lw_tbl := lw_at lw_m6 113 rfl
theorem q1576 : (Jvm.Cond.publicMethod ({ cls := "java/lang/StringBuilder", name := "compareTo", desc := "(Ljava/lang/Object;)I" } : Jvm.MethodName)) ∈ lw_tbl := lw_at lw_m7 56 rfl
theorem q1574 : (Jvm.Cond.unhidden "java/lang/StringBuilder" "compareTo" "(Ljava/lang/Object;)I") ∈ lw_tbl := lw_at lw_m7 54 rfl
theorem q1572 : (Jvm.Cond.castable "java/lang/StringBuilder" "java/lang/Comparable") ∈ lw_tbl := lw_at lw_m7 52 rfl
theorem q1432 : (Jvm.Cond.publicMethod ({ cls := "java/lang/String", name := "compareTo", desc := "(Ljava/lang/Object;)I" } : Jvm.MethodName)) ∈ lw_tbl := lw_at lw_m6 152 rfl
theorem q1430 : (Jvm.Cond.unhidden "java/lang/String" "compareTo" "(Ljava/lang/Object;)I") ∈ lw_tbl := lw_at lw_m6 150 rfl
theorem q1428 : (Jvm.Cond.castable "java/lang/String" "java/lang/Comparable") ∈ lw_tbl := lw_at lw_m6 148 rfl
theorem q1399 : (Jvm.Cond.publicMethod ({ cls := "java/lang/Enum", name := "compareTo", desc := "(Ljava/lang/Object;)I" } : Jvm.MethodName)) ∈ lw_tbl := lw_at lw_m6 119 rfl
theorem q1421 : (Jvm.Cond.unhidden "DebateHall$Kind$2" "compareTo" "(Ljava/lang/Object;)I") ∈ lw_tbl := lw_at lw_m6 141 rfl
theorem q1419 : (Jvm.Cond.castable "DebateHall$Kind$2" "java/lang/Comparable") ∈ lw_tbl := lw_at lw_m6 139 rfl
theorem q1397 : (Jvm.Cond.unhidden "DebateHall$Kind$1" "compareTo" "(Ljava/lang/Object;)I") ∈ lw_tbl := lw_at lw_m6 117 rfl
theorem q1395 : (Jvm.Cond.castable "DebateHall$Kind$1" "java/lang/Comparable") ∈ lw_tbl := lw_at lw_m6 115 rfl
theorem q1424 : (Jvm.Cond.unhidden "DebateHall$Kind$3" "compareTo" "(Ljava/lang/Object;)I") ∈ lw_tbl := lw_at lw_m6 144 rfl
theorem q1422 : (Jvm.Cond.castable "DebateHall$Kind$3" "java/lang/Comparable") ∈ lw_tbl := lw_at lw_m6 142 rfl
theorem q1427 : (Jvm.Cond.unhidden "DebateHall$Sort" "compareTo" "(Ljava/lang/Object;)I") ∈ lw_tbl := lw_at lw_m6 147 rfl
theorem q1425 : (Jvm.Cond.castable "DebateHall$Sort" "java/lang/Comparable") ∈ lw_tbl := lw_at lw_m6 145 rfl
theorem q445 : (Jvm.Cond.selects "java/lang/StringBuilder" ({ cls := "java/lang/AbstractStringBuilder", name := "isLatin1", desc := "()Z" } : Jvm.MethodName) ({ cls := "java/lang/AbstractStringBuilder", name := "isLatin1", desc := "()Z" } : Jvm.MethodName)) ∈ lw_all := lw_g (lw_at lw_m2 125 rfl) rfl
theorem q408 : (Jvm.Cond.privateMethod ({ cls := "java/lang/AbstractStringBuilder", name := "ensureCapacityInternal", desc := "(I)V" } : Jvm.MethodName)) ∈ lw_tbl := lw_at lw_m2 88 rfl
theorem q409 : (Jvm.Cond.instanceMethod ({ cls := "java/lang/AbstractStringBuilder", name := "ensureCapacityInternal", desc := "(I)V" } : Jvm.MethodName)) ∈ lw_all := lw_g (lw_at lw_m2 89 rfl) rfl
theorem q412 : (Jvm.Cond.privateMethod ({ cls := "java/lang/AbstractStringBuilder", name := "newCapacity", desc := "(I)I" } : Jvm.MethodName)) ∈ lw_tbl := lw_at lw_m2 92 rfl
theorem q413 : (Jvm.Cond.instanceMethod ({ cls := "java/lang/AbstractStringBuilder", name := "newCapacity", desc := "(I)I" } : Jvm.MethodName)) ∈ lw_all := lw_g (lw_at lw_m2 93 rfl) rfl
theorem q636 : (Jvm.Cond.privateMethod ({ cls := "java/lang/AbstractStringBuilder", name := "putStringAt", desc := "(ILjava/lang/String;)V" } : Jvm.MethodName)) ∈ lw_tbl := lw_at lw_m3 76 rfl
theorem q637 : (Jvm.Cond.instanceMethod ({ cls := "java/lang/AbstractStringBuilder", name := "putStringAt", desc := "(ILjava/lang/String;)V" } : Jvm.MethodName)) ∈ lw_all := lw_g (lw_at lw_m3 77 rfl) rfl
theorem q640 : (Jvm.Cond.privateMethod ({ cls := "java/lang/AbstractStringBuilder", name := "inflateIfNeededFor", desc := "(Ljava/lang/String;)V" } : Jvm.MethodName)) ∈ lw_tbl := lw_at lw_m3 80 rfl
theorem q641 : (Jvm.Cond.instanceMethod ({ cls := "java/lang/AbstractStringBuilder", name := "inflateIfNeededFor", desc := "(Ljava/lang/String;)V" } : Jvm.MethodName)) ∈ lw_all := lw_g (lw_at lw_m3 81 rfl) rfl
theorem q558 : (Jvm.Cond.laysStatic "java/lang/Throwable" "UNASSIGNED_STACK" "[Ljava/lang/StackTraceElement;") ∈ lw_tbl := lw_at lw_m2 238 rfl
theorem q95 : (Jvm.Cond.initialized "java/lang/Throwable") ∈ lw_all := lw_g (lw_at lw_m1 15 rfl) rfl
theorem q560 : (Jvm.Cond.laysStatic "java/lang/Throwable" "SUPPRESSED_SENTINEL" "Ljava/util/List;") ∈ lw_tbl := lw_at lw_m3 0 rfl
theorem q270 : (Jvm.Cond.arrayClass Jvm.ClassFile.FieldType.int) ∈ lw_all := lw_g (lw_at lw_m1 190 rfl) rfl
theorem q163 : (Jvm.Cond.arrayClass Jvm.ClassFile.FieldType.byte) ∈ lw_all := lw_g (lw_at lw_m1 83 rfl) rfl
theorem q2435 : (Jvm.Cond.arrayClass Jvm.ClassFile.FieldType.long) ∈ lw_all := lw_g (lw_at lw_m10 195 rfl) rfl
theorem q840 : (Jvm.Cond.arrayOver (Jvm.ClassFile.FieldType.object "java/lang/Object")) ∈ lw_tbl := lw_at lw_m4 40 rfl
theorem q1333 : (Jvm.Cond.arrayOver (Jvm.ClassFile.FieldType.object "java/util/HashMap$Node")) ∈ lw_tbl := lw_at lw_m6 53 rfl
theorem q2968 : (Jvm.Cond.arrayOver (Jvm.ClassFile.FieldType.object "java/lang/String")) ∈ lw_tbl := lw_at lw_m13 8 rfl
theorem zs_K_0 {args : Array Value} {s : State} (hts : ∀ w ∈ lw_all, w.before args s = true) : ∃ q : ClassId × (Nat → Nat), zz_K s zR_0 zT_0 4 q.1 q.2 := zs_Kof hts zin_0 q141
theorem zs_K_1 {args : Array Value} {s : State} (hts : ∀ w ∈ lw_all, w.before args s = true) : ∃ q : ClassId × (Nat → Nat), zz_K s zR_1 zT_1 2 q.1 q.2 := zs_Kof hts zin_1 q149
theorem zs_K_2 {args : Array Value} {s : State} (hts : ∀ w ∈ lw_all, w.before args s = true) : ∃ q : ClassId × (Nat → Nat), zz_K s zR_2 zT_2 8 q.1 q.2 := zs_Kof hts zin_2 q165
theorem zs_K_3 {args : Array Value} {s : State} (hts : ∀ w ∈ lw_all, w.before args s = true) : ∃ q : ClassId × (Nat → Nat), zz_K s zR_3 zT_3 3 q.1 q.2 := zs_Kof hts zin_3 q322
theorem zs_K_4 {args : Array Value} {s : State} (hts : ∀ w ∈ lw_all, w.before args s = true) : ∃ q : ClassId × (Nat → Nat), zz_K s zR_4 zT_4 2 q.1 q.2 := zs_Kof hts zin_4 q324
theorem zs_K_5 {args : Array Value} {s : State} (hts : ∀ w ∈ lw_all, w.before args s = true) : ∃ q : ClassId × (Nat → Nat), zz_K s zR_5 zT_5 3 q.1 q.2 := zs_Kof hts zin_5 q358
theorem zs_K_6 {args : Array Value} {s : State} (hts : ∀ w ∈ lw_all, w.before args s = true) : ∃ q : ClassId × (Nat → Nat), zz_K s zR_6 zT_6 8 q.1 q.2 := zs_Kof hts zin_6 q916
theorem zs_K_7 {args : Array Value} {s : State} (hts : ∀ w ∈ lw_all, w.before args s = true) : ∃ q : ClassId × (Nat → Nat), zz_K s zR_7 zT_7 3 q.1 q.2 := zs_Kof hts zin_7 q942
theorem zs_K_8 {args : Array Value} {s : State} (hts : ∀ w ∈ lw_all, w.before args s = true) : ∃ q : ClassId × (Nat → Nat), zz_K s zR_8 zT_8 4 q.1 q.2 := zs_Kof hts zin_8 q974
theorem zs_K_9 {args : Array Value} {s : State} (hts : ∀ w ∈ lw_all, w.before args s = true) : ∃ q : ClassId × (Nat → Nat), zz_K s zR_9 zT_9 2 q.1 q.2 := zs_Kof hts zin_9 q1007
theorem zs_K_10 {args : Array Value} {s : State} (hts : ∀ w ∈ lw_all, w.before args s = true) : ∃ q : ClassId × (Nat → Nat), zz_K s zR_10 zT_10 1 q.1 q.2 := zs_Kof hts zin_10 q1039
theorem zs_K_11 {args : Array Value} {s : State} (hts : ∀ w ∈ lw_all, w.before args s = true) : ∃ q : ClassId × (Nat → Nat), zz_K s zR_11 zT_11 2 q.1 q.2 := zs_Kof hts zin_11 q1055
theorem zs_K_12 {args : Array Value} {s : State} (hts : ∀ w ∈ lw_all, w.before args s = true) : ∃ q : ClassId × (Nat → Nat), zz_K s zR_12 zT_12 7 q.1 q.2 := zs_Kof hts zin_12 q1092
theorem zs_K_13 {args : Array Value} {s : State} (hts : ∀ w ∈ lw_all, w.before args s = true) : ∃ q : ClassId × (Nat → Nat), zz_K s zR_13 zT_13 3 q.1 q.2 := zs_Kof hts zin_13 q1123
theorem zs_K_14 {args : Array Value} {s : State} (hts : ∀ w ∈ lw_all, w.before args s = true) : ∃ q : ClassId × (Nat → Nat), zz_K s zR_14 zT_14 3 q.1 q.2 := zs_Kof hts zin_14 q1191
theorem zs_K_15 {args : Array Value} {s : State} (hts : ∀ w ∈ lw_all, w.before args s = true) : ∃ q : ClassId × (Nat → Nat), zz_K s zR_15 zT_15 8 q.1 q.2 := zs_Kof hts zin_15 q1729
theorem zs_K_16 {args : Array Value} {s : State} (hts : ∀ w ∈ lw_all, w.before args s = true) : ∃ q : ClassId × (Nat → Nat), zz_K s zR_16 zT_16 24 q.1 q.2 := zs_Kof hts zin_16 q2376
theorem zs_K_17 {args : Array Value} {s : State} (hts : ∀ w ∈ lw_all, w.before args s = true) : ∃ q : ClassId × (Nat → Nat), zz_K s zR_17 zT_17 12 q.1 q.2 := zs_Kof hts zin_17 q2382
theorem zs_K_18 {args : Array Value} {s : State} (hts : ∀ w ∈ lw_all, w.before args s = true) : ∃ q : ClassId × (Nat → Nat), zz_K s zR_18 zT_18 3 q.1 q.2 := zs_Kof hts zin_18 q171
theorem zs_K_19 {args : Array Value} {s : State} (hts : ∀ w ∈ lw_all, w.before args s = true) : ∃ q : ClassId × (Nat → Nat), zz_K s zR_19 zT_19 8 q.1 q.2 := zs_Kof hts zin_19 q200
theorem zs_K_20 {args : Array Value} {s : State} (hts : ∀ w ∈ lw_all, w.before args s = true) : ∃ q : ClassId × (Nat → Nat), zz_K s zR_20 zT_20 4 q.1 q.2 := zs_Kof hts zin_20 q272
theorem zs_K_21 {args : Array Value} {s : State} (hts : ∀ w ∈ lw_all, w.before args s = true) : ∃ q : ClassId × (Nat → Nat), zz_K s zR_21 zT_21 4 q.1 q.2 := zs_Kof hts zin_21 q500
theorem zs_K_22 {args : Array Value} {s : State} (hts : ∀ w ∈ lw_all, w.before args s = true) : ∃ q : ClassId × (Nat → Nat), zz_K s zR_22 zT_22 1 q.1 q.2 := zs_Kof hts zin_22 q1074
theorem zs_K_23 {args : Array Value} {s : State} (hts : ∀ w ∈ lw_all, w.before args s = true) : ∃ q : ClassId × (Nat → Nat), zz_K s zR_23 zT_23 4 q.1 q.2 := zs_Kof hts zin_23 q1149
theorem zs_K_24 {args : Array Value} {s : State} (hts : ∀ w ∈ lw_all, w.before args s = true) : ∃ q : ClassId × (Nat → Nat), zz_K s zR_24 zT_24 4 q.1 q.2 := zs_Kof hts zin_24 q1348
theorem zs_K_25 {args : Array Value} {s : State} (hts : ∀ w ∈ lw_all, w.before args s = true) : ∃ q : ClassId × (Nat → Nat), zz_K s zR_25 zT_25 11 q.1 q.2 := zs_Kof hts zin_25 q1677
theorem zs_K_26 {args : Array Value} {s : State} (hts : ∀ w ∈ lw_all, w.before args s = true) : ∃ q : ClassId × (Nat → Nat), zz_K s zR_26 zT_26 0 q.1 q.2 := zs_Kof hts zin_26 q2225
theorem zs_K_27 {args : Array Value} {s : State} (hts : ∀ w ∈ lw_all, w.before args s = true) : ∃ q : ClassId × (Nat → Nat), zz_K s zR_27 zT_27 0 q.1 q.2 := zs_Kof hts zin_27 q532
theorem zs_K_28 {args : Array Value} {s : State} (hts : ∀ w ∈ lw_all, w.before args s = true) : ∃ q : ClassId × (Nat → Nat), zz_K s zR_28 zT_28 0 q.1 q.2 := zs_Kof hts zin_28 q2136
theorem zs_p {args : Array Value} {s : State} (hq : ∀ c ∈ zs_fl, c.before args s = true) (k : Nat) {c : Cond} (h : zs_fl[k]? = some c) : c.before args s = true := hq c (List.mem_of_getElem? h)
theorem zs_o1 {args : Array Value} {s : State} (hq : ∀ c ∈ zs_fl, c.before args s = true) {A : Nat → Prop} (hA : ∀ a : Nat, a < s.heap.size → ¬ A a) : ∃ a : Nat, (Term.static "DebateHall$Sort" "NAME" "LDebateHall$Sort;").eval args s none [] s = some (.ref a) ∧ va_O "DebateHall$Sort" a A s s.heap ∧ va_OF "java/lang/Enum" "ordinal" "I" (.int 0) a A s s.heap := by
  have hex : (Cond.exactly (.static "DebateHall$Sort" "NAME" "LDebateHall$Sort;") "DebateHall$Sort").before args s = true := zs_p hq 250 (by decide +kernel)
  obtain ⟨a, c0, cA, kA, q1, -⟩ := Cond.exactly_spec (args := args) (first := s) (o := none) (s := s) (idx := []) (t := (.static "DebateHall$Sort" "NAME" "LDebateHall$Sort;")) (cls := "DebateHall$Sort") hex
  have f0 : (Term.field (.static "DebateHall$Sort" "NAME" "LDebateHall$Sort;") "java/lang/Enum" "ordinal" "I").eval args s none [] s = some (.int 0) := va_eqt (zs_p hq 251 (by decide +kernel))
  exact ⟨a, q1, va_Oof hex q1 hA, vk_OFof q1 f0 hA⟩
theorem zs_o2 {args : Array Value} {s : State} (hq : ∀ c ∈ zs_fl, c.before args s = true) {A : Nat → Prop} (hA : ∀ a : Nat, a < s.heap.size → ¬ A a) : ∃ a : Nat, (Term.static "DebateHall$Sort" "KEY" "LDebateHall$Sort;").eval args s none [] s = some (.ref a) ∧ va_O "DebateHall$Sort" a A s s.heap ∧ va_OF "java/lang/Enum" "ordinal" "I" (.int 1) a A s s.heap := by
  have hex : (Cond.exactly (.static "DebateHall$Sort" "KEY" "LDebateHall$Sort;") "DebateHall$Sort").before args s = true := zs_p hq 247 (by decide +kernel)
  obtain ⟨a, c0, cA, kA, q1, -⟩ := Cond.exactly_spec (args := args) (first := s) (o := none) (s := s) (idx := []) (t := (.static "DebateHall$Sort" "KEY" "LDebateHall$Sort;")) (cls := "DebateHall$Sort") hex
  have f0 : (Term.field (.static "DebateHall$Sort" "KEY" "LDebateHall$Sort;") "java/lang/Enum" "ordinal" "I").eval args s none [] s = some (.int 1) := va_eqt (zs_p hq 248 (by decide +kernel))
  exact ⟨a, q1, va_Oof hex q1 hA, vk_OFof q1 f0 hA⟩
theorem zs_o3 {args : Array Value} {s : State} (hq : ∀ c ∈ zs_fl, c.before args s = true) {A : Nat → Prop} (hA : ∀ a : Nat, a < s.heap.size → ¬ A a) : ∃ a : Nat, (Term.static "DebateHall$Sort" "NUMBER" "LDebateHall$Sort;").eval args s none [] s = some (.ref a) ∧ va_O "DebateHall$Sort" a A s s.heap ∧ va_OF "java/lang/Enum" "ordinal" "I" (.int 2) a A s s.heap := by
  have hex : (Cond.exactly (.static "DebateHall$Sort" "NUMBER" "LDebateHall$Sort;") "DebateHall$Sort").before args s = true := zs_p hq 254 (by decide +kernel)
  obtain ⟨a, c0, cA, kA, q1, -⟩ := Cond.exactly_spec (args := args) (first := s) (o := none) (s := s) (idx := []) (t := (.static "DebateHall$Sort" "NUMBER" "LDebateHall$Sort;")) (cls := "DebateHall$Sort") hex
  have f0 : (Term.field (.static "DebateHall$Sort" "NUMBER" "LDebateHall$Sort;") "java/lang/Enum" "ordinal" "I").eval args s none [] s = some (.int 2) := va_eqt (zs_p hq 255 (by decide +kernel))
  exact ⟨a, q1, va_Oof hex q1 hA, vk_OFof q1 f0 hA⟩
theorem zs_o4 {args : Array Value} {s : State} (hq : ∀ c ∈ zs_fl, c.before args s = true) {A : Nat → Prop} (hA : ∀ a : Nat, a < s.heap.size → ¬ A a) : ∃ a : Nat, (Term.static "DebateHall$Sort" "SYMBOL" "LDebateHall$Sort;").eval args s none [] s = some (.ref a) ∧ va_O "DebateHall$Sort" a A s s.heap ∧ va_OF "java/lang/Enum" "ordinal" "I" (.int 3) a A s s.heap := by
  have hex : (Cond.exactly (.static "DebateHall$Sort" "SYMBOL" "LDebateHall$Sort;") "DebateHall$Sort").before args s = true := zs_p hq 259 (by decide +kernel)
  obtain ⟨a, c0, cA, kA, q1, -⟩ := Cond.exactly_spec (args := args) (first := s) (o := none) (s := s) (idx := []) (t := (.static "DebateHall$Sort" "SYMBOL" "LDebateHall$Sort;")) (cls := "DebateHall$Sort") hex
  have f0 : (Term.field (.static "DebateHall$Sort" "SYMBOL" "LDebateHall$Sort;") "java/lang/Enum" "ordinal" "I").eval args s none [] s = some (.int 3) := va_eqt (zs_p hq 260 (by decide +kernel))
  exact ⟨a, q1, va_Oof hex q1 hA, vk_OFof q1 f0 hA⟩
theorem zs_o5 {args : Array Value} {s : State} (hq : ∀ c ∈ zs_fl, c.before args s = true) {A : Nat → Prop} (hA : ∀ a : Nat, a < s.heap.size → ¬ A a) : ∃ a : Nat, (Term.static "DebateHall$Sort" "END" "LDebateHall$Sort;").eval args s none [] s = some (.ref a) ∧ va_O "DebateHall$Sort" a A s s.heap ∧ va_OF "java/lang/Enum" "ordinal" "I" (.int 4) a A s s.heap := by
  have hex : (Cond.exactly (.static "DebateHall$Sort" "END" "LDebateHall$Sort;") "DebateHall$Sort").before args s = true := zs_p hq 265 (by decide +kernel)
  obtain ⟨a, c0, cA, kA, q1, -⟩ := Cond.exactly_spec (args := args) (first := s) (o := none) (s := s) (idx := []) (t := (.static "DebateHall$Sort" "END" "LDebateHall$Sort;")) (cls := "DebateHall$Sort") hex
  have f0 : (Term.field (.static "DebateHall$Sort" "END" "LDebateHall$Sort;") "java/lang/Enum" "ordinal" "I").eval args s none [] s = some (.int 4) := va_eqt (zs_p hq 266 (by decide +kernel))
  exact ⟨a, q1, va_Oof hex q1 hA, vk_OFof q1 f0 hA⟩
theorem zs_o6 {args : Array Value} {s : State} (hq : ∀ c ∈ zs_fl, c.before args s = true) {A : Nat → Prop} (hA : ∀ a : Nat, a < s.heap.size → ¬ A a) : ∃ a : Nat, (Term.static "DebateHall$Sort" "BAD" "LDebateHall$Sort;").eval args s none [] s = some (.ref a) ∧ va_O "DebateHall$Sort" a A s s.heap ∧ va_OF "java/lang/Enum" "ordinal" "I" (.int 5) a A s s.heap := by
  have hex : (Cond.exactly (.static "DebateHall$Sort" "BAD" "LDebateHall$Sort;") "DebateHall$Sort").before args s = true := zs_p hq 9 (by decide +kernel)
  obtain ⟨a, c0, cA, kA, q1, -⟩ := Cond.exactly_spec (args := args) (first := s) (o := none) (s := s) (idx := []) (t := (.static "DebateHall$Sort" "BAD" "LDebateHall$Sort;")) (cls := "DebateHall$Sort") hex
  have f0 : (Term.field (.static "DebateHall$Sort" "BAD" "LDebateHall$Sort;") "java/lang/Enum" "ordinal" "I").eval args s none [] s = some (.int 5) := va_eqt (zs_p hq 10 (by decide +kernel))
  exact ⟨a, q1, va_Oof hex q1 hA, vk_OFof q1 f0 hA⟩
theorem zs_o8 {args : Array Value} {s : State} (hq : ∀ c ∈ zs_fl, c.before args s = true) {A : Nat → Prop} (hA : ∀ a : Nat, a < s.heap.size → ¬ A a) : ∃ a : Nat, (Term.static "DebateHall$Kind" "CLAIM" "LDebateHall$Kind;").eval args s none [] s = some (.ref a) ∧ va_O "DebateHall$Kind$1" a A s s.heap ∧ va_OF "java/lang/Enum" "ordinal" "I" (.int 0) a A s s.heap ∧ va_OF "DebateHall$Kind" "size" "I" (.int 10) a A s s.heap ∧ va_OF "DebateHall$Kind" "cost" "I" (.int 10) a A s s.heap := by
  have hex : (Cond.exactly (.static "DebateHall$Kind" "CLAIM" "LDebateHall$Kind;") "DebateHall$Kind$1").before args s = true := zs_p hq 305 (by decide +kernel)
  obtain ⟨a, c0, cA, kA, q1, -⟩ := Cond.exactly_spec (args := args) (first := s) (o := none) (s := s) (idx := []) (t := (.static "DebateHall$Kind" "CLAIM" "LDebateHall$Kind;")) (cls := "DebateHall$Kind$1") hex
  have f0 : (Term.field (.static "DebateHall$Kind" "CLAIM" "LDebateHall$Kind;") "java/lang/Enum" "ordinal" "I").eval args s none [] s = some (.int 0) := va_eqt (zs_p hq 306 (by decide +kernel))
  have f1 : (Term.field (.static "DebateHall$Kind" "CLAIM" "LDebateHall$Kind;") "DebateHall$Kind" "size" "I").eval args s none [] s = some (.int 10) := va_eqt (zs_p hq 307 (by decide +kernel))
  have f2 : (Term.field (.static "DebateHall$Kind" "CLAIM" "LDebateHall$Kind;") "DebateHall$Kind" "cost" "I").eval args s none [] s = some (.int 10) := va_eqt (zs_p hq 308 (by decide +kernel))
  exact ⟨a, q1, va_Oof hex q1 hA, vk_OFof q1 f0 hA, vk_OFof q1 f1 hA, vk_OFof q1 f2 hA⟩
theorem zs_o9 {args : Array Value} {s : State} (hq : ∀ c ∈ zs_fl, c.before args s = true) {A : Nat → Prop} (hA : ∀ a : Nat, a < s.heap.size → ¬ A a) : ∃ a : Nat, (Term.static "DebateHall$Kind" "ATTACK" "LDebateHall$Kind;").eval args s none [] s = some (.ref a) ∧ va_O "DebateHall$Kind$2" a A s s.heap ∧ va_OF "java/lang/Enum" "ordinal" "I" (.int 1) a A s s.heap ∧ va_OF "DebateHall$Kind" "size" "I" (.int 5) a A s s.heap ∧ va_OF "DebateHall$Kind" "cost" "I" (.int 5) a A s s.heap := by
  have hex : (Cond.exactly (.static "DebateHall$Kind" "ATTACK" "LDebateHall$Kind;") "DebateHall$Kind$2").before args s = true := zs_p hq 272 (by decide +kernel)
  obtain ⟨a, c0, cA, kA, q1, -⟩ := Cond.exactly_spec (args := args) (first := s) (o := none) (s := s) (idx := []) (t := (.static "DebateHall$Kind" "ATTACK" "LDebateHall$Kind;")) (cls := "DebateHall$Kind$2") hex
  have f0 : (Term.field (.static "DebateHall$Kind" "ATTACK" "LDebateHall$Kind;") "java/lang/Enum" "ordinal" "I").eval args s none [] s = some (.int 1) := va_eqt (zs_p hq 273 (by decide +kernel))
  have f1 : (Term.field (.static "DebateHall$Kind" "ATTACK" "LDebateHall$Kind;") "DebateHall$Kind" "size" "I").eval args s none [] s = some (.int 5) := va_eqt (zs_p hq 274 (by decide +kernel))
  have f2 : (Term.field (.static "DebateHall$Kind" "ATTACK" "LDebateHall$Kind;") "DebateHall$Kind" "cost" "I").eval args s none [] s = some (.int 5) := va_eqt (zs_p hq 275 (by decide +kernel))
  exact ⟨a, q1, va_Oof hex q1 hA, vk_OFof q1 f0 hA, vk_OFof q1 f1 hA, vk_OFof q1 f2 hA⟩
theorem zs_o10 {args : Array Value} {s : State} (hq : ∀ c ∈ zs_fl, c.before args s = true) {A : Nat → Prop} (hA : ∀ a : Nat, a < s.heap.size → ¬ A a) : ∃ a : Nat, (Term.static "DebateHall$Kind" "SUPPORT" "LDebateHall$Kind;").eval args s none [] s = some (.ref a) ∧ va_O "DebateHall$Kind$3" a A s s.heap ∧ va_OF "java/lang/Enum" "ordinal" "I" (.int 2) a A s s.heap ∧ va_OF "DebateHall$Kind" "size" "I" (.int 5) a A s s.heap ∧ va_OF "DebateHall$Kind" "cost" "I" (.int 5) a A s s.heap := by
  have hex : (Cond.exactly (.static "DebateHall$Kind" "SUPPORT" "LDebateHall$Kind;") "DebateHall$Kind$3").before args s = true := zs_p hq 284 (by decide +kernel)
  obtain ⟨a, c0, cA, kA, q1, -⟩ := Cond.exactly_spec (args := args) (first := s) (o := none) (s := s) (idx := []) (t := (.static "DebateHall$Kind" "SUPPORT" "LDebateHall$Kind;")) (cls := "DebateHall$Kind$3") hex
  have f0 : (Term.field (.static "DebateHall$Kind" "SUPPORT" "LDebateHall$Kind;") "java/lang/Enum" "ordinal" "I").eval args s none [] s = some (.int 2) := va_eqt (zs_p hq 285 (by decide +kernel))
  have f1 : (Term.field (.static "DebateHall$Kind" "SUPPORT" "LDebateHall$Kind;") "DebateHall$Kind" "size" "I").eval args s none [] s = some (.int 5) := va_eqt (zs_p hq 286 (by decide +kernel))
  have f2 : (Term.field (.static "DebateHall$Kind" "SUPPORT" "LDebateHall$Kind;") "DebateHall$Kind" "cost" "I").eval args s none [] s = some (.int 5) := va_eqt (zs_p hq 287 (by decide +kernel))
  exact ⟨a, q1, va_Oof hex q1 hA, vk_OFof q1 f0 hA, vk_OFof q1 f1 hA, vk_OFof q1 f2 hA⟩
theorem zs_o11 {args : Array Value} {s : State} (hq : ∀ c ∈ zs_fl, c.before args s = true) {A : Nat → Prop} (hA : ∀ a : Nat, a < s.heap.size → ¬ A a) : ∃ a : Nat, (Term.static "java/util/Optional" "EMPTY" "Ljava/util/Optional;").eval args s none [] s = some (.ref a) ∧ va_O "java/util/Optional" a A s s.heap ∧ va_OF "java/util/Optional" "value" "Ljava/lang/Object;" (.null) a A s s.heap := by
  have hex : (Cond.exactly (.static "java/util/Optional" "EMPTY" "Ljava/util/Optional;") "java/util/Optional").before args s = true := zs_p hq 282 (by decide +kernel)
  obtain ⟨a, c0, cA, kA, q1, -⟩ := Cond.exactly_spec (args := args) (first := s) (o := none) (s := s) (idx := []) (t := (.static "java/util/Optional" "EMPTY" "Ljava/util/Optional;")) (cls := "java/util/Optional") hex
  have f0 : (Term.field (.static "java/util/Optional" "EMPTY" "Ljava/util/Optional;") "java/util/Optional" "value" "Ljava/lang/Object;").eval args s none [] s = some .null := zs_eqn (zs_p hq 283 (by decide +kernel))
  exact ⟨a, q1, va_Oof hex q1 hA, vk_OFof q1 f0 hA⟩
theorem zs_o12 {args : Array Value} {s : State} (hq : ∀ c ∈ zs_fl, c.before args s = true) {A : Nat → Prop} (hA : ∀ a : Nat, a < s.heap.size → ¬ A a) : ∃ a : Nat, (Term.static "jdk/internal/util/ArraysSupport" "U" "Ljdk/internal/misc/Unsafe;").eval args s none [] s = some (.ref a) ∧ va_O "jdk/internal/misc/Unsafe" a A s s.heap := by
  have hex : (Cond.exactly (.static "jdk/internal/util/ArraysSupport" "U" "Ljdk/internal/misc/Unsafe;") "jdk/internal/misc/Unsafe").before args s = true := zs_p hq 299 (by decide +kernel)
  obtain ⟨a, c0, cA, kA, q1, -⟩ := Cond.exactly_spec (args := args) (first := s) (o := none) (s := s) (idx := []) (t := (.static "jdk/internal/util/ArraysSupport" "U" "Ljdk/internal/misc/Unsafe;")) (cls := "jdk/internal/misc/Unsafe") hex
  exact ⟨a, q1, va_Oof hex q1 hA⟩
def zl_keys : List Nat := [67, 73, 20, 17, 77, 14, 70, 36, 50, 30, 33, 40, 23, 64, 44, 61, 54, 27, 47, 11, 57]
def zl_longs : List Int64 := [(32493203050161522), (1953066341), (427020085613), (25209), (131277443786868), (107152796640107), (32498748104864372), (1718775661), (28526), (6713202), (439956431717), (26982), (27988542599029861), (125779784592492), (26990), (7304564), (1869636974), (7165066905351644516), (7237492), (6385252), (28530)]
def zl_kix : List Nat := [226, 227, 228, 229, 230, 231, 232, 233, 234, 235, 236, 237, 238, 239, 240, 241, 242, 243, 244, 245, 246]
def zl_mix : List Nat := [320, 321, 322, 323, 324, 325, 326, 327, 328, 329, 330, 331, 332, 333, 334, 335, 336, 337, 338, 339, 340]
theorem zl_kat : ∀ j, j < 21 → zs_fl[zl_kix.getD j 0]? = some (.eq (.elem (.static "DebateHall$Scanner" "KEYS" "[Ljava/lang/String;") (.int (Int32.ofNat j))) (zl_tm (zl_keys.getD j 0))) ∧ zl_keys.getD j 0 < 79 := by decide +kernel
theorem zl_mat : ∀ j, j < 21 → zs_fl[zl_mix.getD j 0]? = some (.eq (.elem (.static "DebateHallModel" "KEYS" "[J") (.int (Int32.ofNat j))) (.long (zl_longs.getD j 0))) := by decide +kernel
theorem zs_a0 {args : Array Value} {s : State} (hq : ∀ c ∈ zs_fl, c.before args s = true) {A : Nat → Prop} (hA : ∀ a : Nat, a < s.heap.size → ¬ A a) : ∃ a : Nat, (Term.static "java/util/ArrayList" "DEFAULTCAPACITY_EMPTY_ELEMENTDATA" "[Ljava/lang/Object;").eval args s none [] s = some (.ref a) ∧ va_T (.object "java/lang/Object") a 0 (fun _ => .null) A s s.heap :=
  va_Tof (tm := (.static "java/util/ArrayList" "DEFAULTCAPACITY_EMPTY_ELEMENTDATA" "[Ljava/lang/Object;")) (by decide) (zs_p hq 5 (by decide +kernel)) (va_eqt (zs_p hq 7 (by decide +kernel))) (fun j hj => absurd hj (Nat.not_lt_zero j)) hA
theorem zs_a7 {args : Array Value} {s : State} (hq : ∀ c ∈ zs_fl, c.before args s = true) {A : Nat → Prop} (hA : ∀ a : Nat, a < s.heap.size → ¬ A a) {adK : Nat → Nat} (hl : ∀ i : Nat, i < 79 → (zl_tm i).eval args s none [] s = some (.ref (adK i))) : ∃ a : Nat, (Term.static "DebateHall$Scanner" "KEYS" "[Ljava/lang/String;").eval args s none [] s = some (.ref a) ∧ va_T (.object "java/lang/String") a 21 (fun j => .ref (adK (zl_keys.getD j 0))) A s s.heap :=
  va_Tof (tm := (.static "DebateHall$Scanner" "KEYS" "[Ljava/lang/String;")) (by decide) (zs_p hq 224 (by decide +kernel)) (va_eqt (zs_p hq 225 (by decide +kernel))) (fun j hj => zs_eqr (zs_p hq _ (zl_kat j hj).1) (hl _ (zl_kat j hj).2)) hA
theorem zs_a13 {args : Array Value} {s : State} (hq : ∀ c ∈ zs_fl, c.before args s = true) {A : Nat → Prop} (hA : ∀ a : Nat, a < s.heap.size → ¬ A a) : ∃ a : Nat, (Term.static "DebateHallModel" "KEYS" "[J").eval args s none [] s = some (.ref a) ∧ va_T .long a 21 (fun j => .long (zl_longs.getD j 0)) A s s.heap :=
  va_Tof (tm := (.static "DebateHallModel" "KEYS" "[J")) (by decide) (zs_p hq 318 (by decide +kernel)) (va_eqt (zs_p hq 319 (by decide +kernel))) (fun j hj => va_eqtl (zs_p hq _ (zl_mat j hj))) hA
theorem zs_m0 {args : Array Value} {s : State} (hq : ∀ c ∈ zs_fl, c.before args s = true) : ∃ mi : Nat, va_Mi "[Ljava/lang/Object;" mi s := va_Mi.of (zs_p hq 659 (by decide +kernel))
theorem zs_m1 {args : Array Value} {s : State} (hq : ∀ c ∈ zs_fl, c.before args s = true) : ∃ mi : Nat, va_Mi "java/lang/String" mi s := va_Mi.of (zs_p hq 660 (by decide +kernel))
theorem zs_m2 {args : Array Value} {s : State} (hq : ∀ c ∈ zs_fl, c.before args s = true) : ∃ mi : Nat, va_Mi "java/lang/Enum" mi s := va_Mi.of (zs_p hq 662 (by decide +kernel))
theorem zs_m3 {args : Array Value} {s : State} (hq : ∀ c ∈ zs_fl, c.before args s = true) : ∃ mi : Nat, va_Mi "DebateHall" mi s := va_Mi.of (zs_p hq 665 (by decide +kernel))
theorem zs_m4 {args : Array Value} {s : State} (hq : ∀ c ∈ zs_fl, c.before args s = true) : ∃ mi : Nat, va_Mi "DebateHall$Asked" mi s := va_Mi.of (zs_p hq 669 (by decide +kernel))
theorem zs_m5 {args : Array Value} {s : State} (hq : ∀ c ∈ zs_fl, c.before args s = true) : ∃ mi : Nat, va_Mi "DebateHall$Claim" mi s := va_Mi.of (zs_p hq 673 (by decide +kernel))
theorem zs_m6 {args : Array Value} {s : State} (hq : ∀ c ∈ zs_fl, c.before args s = true) : ∃ mi : Nat, va_Mi "DebateHall$Denied" mi s := va_Mi.of (zs_p hq 677 (by decide +kernel))
theorem zs_m7 {args : Array Value} {s : State} (hq : ∀ c ∈ zs_fl, c.before args s = true) : ∃ mi : Nat, va_Mi "DebateHall$Fault" mi s := va_Mi.of (zs_p hq 681 (by decide +kernel))
theorem zs_m8 {args : Array Value} {s : State} (hq : ∀ c ∈ zs_fl, c.before args s = true) : ∃ mi : Nat, va_Mi "DebateHall$Item" mi s := va_Mi.of (zs_p hq 685 (by decide +kernel))
theorem zs_m9 {args : Array Value} {s : State} (hq : ∀ c ∈ zs_fl, c.before args s = true) : ∃ mi : Nat, va_Mi "DebateHall$Kind$1" mi s := va_Mi.of (zs_p hq 689 (by decide +kernel))
theorem zs_m10 {args : Array Value} {s : State} (hq : ∀ c ∈ zs_fl, c.before args s = true) : ∃ mi : Nat, va_Mi "DebateHall$Kind$2" mi s := va_Mi.of (zs_p hq 693 (by decide +kernel))
theorem zs_m11 {args : Array Value} {s : State} (hq : ∀ c ∈ zs_fl, c.before args s = true) : ∃ mi : Nat, va_Mi "DebateHall$Kind$3" mi s := va_Mi.of (zs_p hq 697 (by decide +kernel))
theorem zs_m12 {args : Array Value} {s : State} (hq : ∀ c ∈ zs_fl, c.before args s = true) : ∃ mi : Nat, va_Mi "DebateHall$Minutes" mi s := va_Mi.of (zs_p hq 701 (by decide +kernel))
theorem zs_m13 {args : Array Value} {s : State} (hq : ∀ c ∈ zs_fl, c.before args s = true) : ∃ mi : Nat, va_Mi "DebateHall$Reader" mi s := va_Mi.of (zs_p hq 705 (by decide +kernel))
theorem zs_m14 {args : Array Value} {s : State} (hq : ∀ c ∈ zs_fl, c.before args s = true) : ∃ mi : Nat, va_Mi "DebateHall$Scanner" mi s := va_Mi.of (zs_p hq 709 (by decide +kernel))
theorem zs_m15 {args : Array Value} {s : State} (hq : ∀ c ∈ zs_fl, c.before args s = true) : ∃ mi : Nat, va_Mi "DebateHall$Seat" mi s := va_Mi.of (zs_p hq 713 (by decide +kernel))
theorem zs_m16 {args : Array Value} {s : State} (hq : ∀ c ∈ zs_fl, c.before args s = true) : ∃ mi : Nat, va_Mi "DebateHall$Several" mi s := va_Mi.of (zs_p hq 717 (by decide +kernel))
theorem zs_m17 {args : Array Value} {s : State} (hq : ∀ c ∈ zs_fl, c.before args s = true) : ∃ mi : Nat, va_Mi "DebateHall$Sort" mi s := va_Mi.of (zs_p hq 721 (by decide +kernel))
theorem zs_m18 {args : Array Value} {s : State} (hq : ∀ c ∈ zs_fl, c.before args s = true) : ∃ mi : Nat, va_Mi "DebateHall$Speaker" mi s := va_Mi.of (zs_p hq 725 (by decide +kernel))
theorem zs_m19 {args : Array Value} {s : State} (hq : ∀ c ∈ zs_fl, c.before args s = true) : ∃ mi : Nat, va_Mi "DebateHall$Tape" mi s := va_Mi.of (zs_p hq 729 (by decide +kernel))
theorem zs_m20 {args : Array Value} {s : State} (hq : ∀ c ∈ zs_fl, c.before args s = true) : ∃ mi : Nat, va_Mi "DebateHall$Thrust" mi s := va_Mi.of (zs_p hq 733 (by decide +kernel))
theorem zs_m21 {args : Array Value} {s : State} (hq : ∀ c ∈ zs_fl, c.before args s = true) : ∃ mi : Nat, va_Mi "DebateHall$Token" mi s := va_Mi.of (zs_p hq 737 (by decide +kernel))
theorem zs_m22 {args : Array Value} {s : State} (hq : ∀ c ∈ zs_fl, c.before args s = true) : ∃ mi : Nat, va_Mi "DebateHall$Turn" mi s := va_Mi.of (zs_p hq 741 (by decide +kernel))
theorem zs_m23 {args : Array Value} {s : State} (hq : ∀ c ∈ zs_fl, c.before args s = true) : ∃ mi : Nat, va_Mi "DebateHallModel" mi s := va_Mi.of (zs_p hq 745 (by decide +kernel))
theorem zs_m24 {args : Array Value} {s : State} (hq : ∀ c ∈ zs_fl, c.before args s = true) : ∃ mi : Nat, va_Mi "DebateHallModel$State" mi s := va_Mi.of (zs_p hq 749 (by decide +kernel))
theorem zs_m25 {args : Array Value} {s : State} (hq : ∀ c ∈ zs_fl, c.before args s = true) : ∃ mi : Nat, va_Mi "java/lang/ArrayIndexOutOfBoundsException" mi s := va_Mi.of (zs_p hq 753 (by decide +kernel))
theorem zs_m26 {args : Array Value} {s : State} (hq : ∀ c ∈ zs_fl, c.before args s = true) : ∃ mi : Nat, va_Mi "java/lang/IllegalArgumentException" mi s := va_Mi.of (zs_p hq 757 (by decide +kernel))
theorem zs_m27 {args : Array Value} {s : State} (hq : ∀ c ∈ zs_fl, c.before args s = true) : ∃ mi : Nat, va_Mi "java/lang/IllegalStateException" mi s := va_Mi.of (zs_p hq 761 (by decide +kernel))
theorem zs_m28 {args : Array Value} {s : State} (hq : ∀ c ∈ zs_fl, c.before args s = true) : ∃ mi : Nat, va_Mi "java/lang/IndexOutOfBoundsException" mi s := va_Mi.of (zs_p hq 765 (by decide +kernel))
theorem zs_m29 {args : Array Value} {s : State} (hq : ∀ c ∈ zs_fl, c.before args s = true) : ∃ mi : Nat, va_Mi "java/lang/StringBuilder" mi s := va_Mi.of (zs_p hq 769 (by decide +kernel))
theorem zs_m30 {args : Array Value} {s : State} (hq : ∀ c ∈ zs_fl, c.before args s = true) : ∃ mi : Nat, va_Mi "java/lang/StringIndexOutOfBoundsException" mi s := va_Mi.of (zs_p hq 773 (by decide +kernel))
theorem zs_m31 {args : Array Value} {s : State} (hq : ∀ c ∈ zs_fl, c.before args s = true) : ∃ mi : Nat, va_Mi "java/lang/System$2" mi s := va_Mi.of (zs_p hq 777 (by decide +kernel))
theorem zs_m32 {args : Array Value} {s : State} (hq : ∀ c ∈ zs_fl, c.before args s = true) : ∃ mi : Nat, va_Mi "java/lang/Throwable" mi s := va_Mi.of (zs_p hq 781 (by decide +kernel))
theorem zs_m33 {args : Array Value} {s : State} (hq : ∀ c ∈ zs_fl, c.before args s = true) : ∃ mi : Nat, va_Mi "java/util/ArrayList" mi s := va_Mi.of (zs_p hq 785 (by decide +kernel))
theorem zs_m34 {args : Array Value} {s : State} (hq : ∀ c ∈ zs_fl, c.before args s = true) : ∃ mi : Nat, va_Mi "java/util/ArrayList$Itr" mi s := va_Mi.of (zs_p hq 789 (by decide +kernel))
theorem zs_m35 {args : Array Value} {s : State} (hq : ∀ c ∈ zs_fl, c.before args s = true) : ∃ mi : Nat, va_Mi "java/util/HashMap" mi s := va_Mi.of (zs_p hq 793 (by decide +kernel))
theorem zs_m36 {args : Array Value} {s : State} (hq : ∀ c ∈ zs_fl, c.before args s = true) : ∃ mi : Nat, va_Mi "java/util/HashMap$Node" mi s := va_Mi.of (zs_p hq 797 (by decide +kernel))
theorem zs_m37 {args : Array Value} {s : State} (hq : ∀ c ∈ zs_fl, c.before args s = true) : ∃ mi : Nat, va_Mi "java/util/HashMap$TreeNode" mi s := va_Mi.of (zs_p hq 801 (by decide +kernel))
theorem zs_m38 {args : Array Value} {s : State} (hq : ∀ c ∈ zs_fl, c.before args s = true) : ∃ mi : Nat, va_Mi "java/util/Optional" mi s := va_Mi.of (zs_p hq 805 (by decide +kernel))
theorem zs_m39 {args : Array Value} {s : State} (hq : ∀ c ∈ zs_fl, c.before args s = true) : ∃ mi : Nat, va_Mi "jdk/internal/misc/Unsafe" mi s := va_Mi.of (zs_p hq 809 (by decide +kernel))
theorem zs_ms {args : Array Value} {s : State} (hq : ∀ c ∈ zs_fl, c.before args s = true) : ∃ mi : Nat → Nat, ∀ (i : Nat) (C : String), zzMi i = some C → va_Mi C (mi i) s := by
  refine Classical.axiomOfChoice (r := fun i m => ∀ C : String, zzMi i = some C → va_Mi C m s) fun i => ?_
  match i with
  | 0 => obtain ⟨m, h⟩ := zs_m0 hq; exact ⟨m, fun C hC => by cases hC; exact h⟩
  | 1 => obtain ⟨m, h⟩ := zs_m1 hq; exact ⟨m, fun C hC => by cases hC; exact h⟩
  | 2 => obtain ⟨m, h⟩ := zs_m2 hq; exact ⟨m, fun C hC => by cases hC; exact h⟩
  | 3 => obtain ⟨m, h⟩ := zs_m3 hq; exact ⟨m, fun C hC => by cases hC; exact h⟩
  | 4 => obtain ⟨m, h⟩ := zs_m4 hq; exact ⟨m, fun C hC => by cases hC; exact h⟩
  | 5 => obtain ⟨m, h⟩ := zs_m5 hq; exact ⟨m, fun C hC => by cases hC; exact h⟩
  | 6 => obtain ⟨m, h⟩ := zs_m6 hq; exact ⟨m, fun C hC => by cases hC; exact h⟩
  | 7 => obtain ⟨m, h⟩ := zs_m7 hq; exact ⟨m, fun C hC => by cases hC; exact h⟩
  | 8 => obtain ⟨m, h⟩ := zs_m8 hq; exact ⟨m, fun C hC => by cases hC; exact h⟩
  | 9 => obtain ⟨m, h⟩ := zs_m9 hq; exact ⟨m, fun C hC => by cases hC; exact h⟩
  | 10 => obtain ⟨m, h⟩ := zs_m10 hq; exact ⟨m, fun C hC => by cases hC; exact h⟩
  | 11 => obtain ⟨m, h⟩ := zs_m11 hq; exact ⟨m, fun C hC => by cases hC; exact h⟩
  | 12 => obtain ⟨m, h⟩ := zs_m12 hq; exact ⟨m, fun C hC => by cases hC; exact h⟩
  | 13 => obtain ⟨m, h⟩ := zs_m13 hq; exact ⟨m, fun C hC => by cases hC; exact h⟩
  | 14 => obtain ⟨m, h⟩ := zs_m14 hq; exact ⟨m, fun C hC => by cases hC; exact h⟩
  | 15 => obtain ⟨m, h⟩ := zs_m15 hq; exact ⟨m, fun C hC => by cases hC; exact h⟩
  | 16 => obtain ⟨m, h⟩ := zs_m16 hq; exact ⟨m, fun C hC => by cases hC; exact h⟩
  | 17 => obtain ⟨m, h⟩ := zs_m17 hq; exact ⟨m, fun C hC => by cases hC; exact h⟩
  | 18 => obtain ⟨m, h⟩ := zs_m18 hq; exact ⟨m, fun C hC => by cases hC; exact h⟩
  | 19 => obtain ⟨m, h⟩ := zs_m19 hq; exact ⟨m, fun C hC => by cases hC; exact h⟩
  | 20 => obtain ⟨m, h⟩ := zs_m20 hq; exact ⟨m, fun C hC => by cases hC; exact h⟩
  | 21 => obtain ⟨m, h⟩ := zs_m21 hq; exact ⟨m, fun C hC => by cases hC; exact h⟩
  | 22 => obtain ⟨m, h⟩ := zs_m22 hq; exact ⟨m, fun C hC => by cases hC; exact h⟩
  | 23 => obtain ⟨m, h⟩ := zs_m23 hq; exact ⟨m, fun C hC => by cases hC; exact h⟩
  | 24 => obtain ⟨m, h⟩ := zs_m24 hq; exact ⟨m, fun C hC => by cases hC; exact h⟩
  | 25 => obtain ⟨m, h⟩ := zs_m25 hq; exact ⟨m, fun C hC => by cases hC; exact h⟩
  | 26 => obtain ⟨m, h⟩ := zs_m26 hq; exact ⟨m, fun C hC => by cases hC; exact h⟩
  | 27 => obtain ⟨m, h⟩ := zs_m27 hq; exact ⟨m, fun C hC => by cases hC; exact h⟩
  | 28 => obtain ⟨m, h⟩ := zs_m28 hq; exact ⟨m, fun C hC => by cases hC; exact h⟩
  | 29 => obtain ⟨m, h⟩ := zs_m29 hq; exact ⟨m, fun C hC => by cases hC; exact h⟩
  | 30 => obtain ⟨m, h⟩ := zs_m30 hq; exact ⟨m, fun C hC => by cases hC; exact h⟩
  | 31 => obtain ⟨m, h⟩ := zs_m31 hq; exact ⟨m, fun C hC => by cases hC; exact h⟩
  | 32 => obtain ⟨m, h⟩ := zs_m32 hq; exact ⟨m, fun C hC => by cases hC; exact h⟩
  | 33 => obtain ⟨m, h⟩ := zs_m33 hq; exact ⟨m, fun C hC => by cases hC; exact h⟩
  | 34 => obtain ⟨m, h⟩ := zs_m34 hq; exact ⟨m, fun C hC => by cases hC; exact h⟩
  | 35 => obtain ⟨m, h⟩ := zs_m35 hq; exact ⟨m, fun C hC => by cases hC; exact h⟩
  | 36 => obtain ⟨m, h⟩ := zs_m36 hq; exact ⟨m, fun C hC => by cases hC; exact h⟩
  | 37 => obtain ⟨m, h⟩ := zs_m37 hq; exact ⟨m, fun C hC => by cases hC; exact h⟩
  | 38 => obtain ⟨m, h⟩ := zs_m38 hq; exact ⟨m, fun C hC => by cases hC; exact h⟩
  | 39 => obtain ⟨m, h⟩ := zs_m39 hq; exact ⟨m, fun C hC => by cases hC; exact h⟩
  | n + 40 => exact ⟨0, fun C hC => by cases hC⟩
theorem zs_st {args : Array Value} {s : State} (hq : ∀ c ∈ zs_fl, c.before args s = true) (hts : ∀ w ∈ lw_tbl, w.before args s = true) {A : Nat → Prop} (hA : ∀ a : Nat, a < s.heap.size → ¬ A a) {ad : Nat → Nat} (hr : ∀ (j : Nat) (r : String × String × String), zzSt j = some r → j < 14 → (Term.static r.1 r.2.1 r.2.2).eval args s none [] s = some (.ref (ad j))) (hn : (Term.static "jdk/internal/util/Preconditions" "SIOOBE_FORMATTER" "Ljava/util/function/BiFunction;").eval args s none [] s = some (va_rf (if ad 526 = 0 then none else some (ad 26)))) : ∀ (i : Nat) (r : String × String × String), zzSt i = some r → va_Z r.1 r.2.1 r.2.2 (zzSv ad i) A s s.heap := by
  intro i r h
  match i, h with
  | 0, h => cases h; exact va_Zof (hts _ q183) (hts _ (lw_all_tbl q86)) (hr 0 _ rfl (by decide)) hA
  | 1, h => cases h; exact va_Zof (hts _ q719) (hts _ (lw_all_tbl q104)) (hr 1 _ rfl (by decide)) hA
  | 2, h => cases h; exact va_Zof (hts _ q717) (hts _ (lw_all_tbl q104)) (hr 2 _ rfl (by decide)) hA
  | 3, h => cases h; exact va_Zof (hts _ q721) (hts _ (lw_all_tbl q104)) (hr 3 _ rfl (by decide)) hA
  | 4, h => cases h; exact va_Zof (hts _ q774) (hts _ (lw_all_tbl q104)) (hr 4 _ rfl (by decide)) hA
  | 5, h => cases h; exact va_Zof (hts _ q845) (hts _ (lw_all_tbl q104)) (hr 5 _ rfl (by decide)) hA
  | 6, h => cases h; exact va_Zof (hts _ q360) (hts _ (lw_all_tbl q104)) (hr 6 _ rfl (by decide)) hA
  | 7, h => cases h; exact va_Zof (hts _ q707) (hts _ (lw_all_tbl q101)) (hr 7 _ rfl (by decide)) hA
  | 8, h => cases h; exact va_Zof (hts _ q1829) (hts _ (lw_all_tbl q119)) (hr 8 _ rfl (by decide)) hA
  | 9, h => cases h; exact va_Zof (hts _ q993) (hts _ (lw_all_tbl q119)) (hr 9 _ rfl (by decide)) hA
  | 10, h => cases h; exact va_Zof (hts _ q1119) (hts _ (lw_all_tbl q119)) (hr 10 _ rfl (by decide)) hA
  | 11, h => cases h; exact va_Zof (hts _ q1090) (hts _ (lw_all_tbl q124)) (hr 11 _ rfl (by decide)) hA
  | 12, h => cases h; exact va_Zof (hts _ q1457) (hts _ (lw_all_tbl q105)) (hr 12 _ rfl (by decide)) hA
  | 13, h => cases h; exact va_Zof (hts _ q2585) (hts _ (lw_all_tbl q93)) (hr 13 _ rfl (by decide)) hA
  | 14, h => cases h; exact va_Zof (hts _ q281) (hts _ (lw_all_tbl q91)) (va_eqi (zs_p hq 8 (by decide +kernel))) hA
  | 15, h => cases h; exact va_Zof (hts _ q478) (hts _ (lw_all_tbl q92)) (va_eqi (zs_p hq 12 (by decide +kernel))) hA
  | 16, h => cases h; exact va_Zof (hts _ q480) (hts _ (lw_all_tbl q92)) (va_eqi (zs_p hq 13 (by decide +kernel))) hA
  | 17, h => cases h; exact va_Zof (hts _ q482) (hts _ (lw_all_tbl q92)) (va_eqi (zs_p hq 14 (by decide +kernel))) hA
  | 18, h => cases h; exact va_Zof (hts _ q1448) (hts _ (lw_all_tbl q130)) (va_eqi (zs_p hq 296 (by decide +kernel))) hA
  | 19, h => cases h; exact va_Zof (hts _ q1450) (hts _ (lw_all_tbl q105)) (va_eqi (zs_p hq 297 (by decide +kernel))) hA
  | 20, h => cases h; exact va_Zof (hts _ q1455) (hts _ (lw_all_tbl q105)) (va_eqi (zs_p hq 298 (by decide +kernel))) hA
  | 21, h => cases h; exact va_Zof (hts _ q1484) (hts _ (lw_all_tbl q131)) (va_eqi (zs_p hq 300 (by decide +kernel))) hA
  | 22, h => cases h; exact va_Zof (hts _ q1511) (hts _ (lw_all_tbl q105)) (va_eqi (zs_p hq 301 (by decide +kernel))) hA
  | 23, h => cases h; exact va_Zof (hts _ q1520) (hts _ (lw_all_tbl q105)) (va_eqi (zs_p hq 302 (by decide +kernel))) hA
  | 24, h => cases h; exact va_Zof (hts _ q1528) (hts _ (lw_all_tbl q105)) (va_eqi (zs_p hq 303 (by decide +kernel))) hA
  | 25, h => cases h; exact va_Zof (hts _ q1617) (hts _ (lw_all_tbl q134)) (va_eqi (zs_p hq 304 (by decide +kernel))) hA
  | 26, h => cases h; exact va_Zof (hts _ q470) (hts _ (lw_all_tbl q110)) hn hA
  | n + 27, h => cases h
theorem zs_ls {args : Array Value} {s : State} (hts : ∀ w ∈ lw_tbl, w.before args s = true) {adK : Nat → Nat} (hl : ∀ i : Nat, i < 79 → (zl_tm i).eval args s none [] s = some (.ref (adK i))) : ∀ (i : Nat) (r : String × Nat × String), zzLi i = some r → vk_R r.1 r.2.1 r.2.2 (adK i) s := by
  intro i r h
  match i, h with
  | 0, h => cases h; exact zs_vk (hts _ q361) (hl 0 (by decide))
  | 1, h => cases h; exact zs_vk (hts _ q611) (hl 1 (by decide))
  | 2, h => cases h; exact zs_vk (hts _ q2076) (hl 2 (by decide))
  | 3, h => cases h; exact zs_vk (hts _ q2075) (hl 3 (by decide))
  | 4, h => cases h; exact zs_vk (hts _ q1137) (hl 4 (by decide))
  | 5, h => cases h; exact zs_vk (hts _ q2093) (hl 5 (by decide))
  | 6, h => cases h; exact zs_vk (hts _ q2050) (hl 6 (by decide))
  | 7, h => cases h; exact zs_vk (hts _ q1048) (hl 7 (by decide))
  | 8, h => cases h; exact zs_vk (hts _ q722) (hl 8 (by decide))
  | 9, h => cases h; exact zs_vk (hts _ q1049) (hl 9 (by decide))
  | 10, h => cases h; exact zs_vk (hts _ q1068) (hl 10 (by decide))
  | 11, h => cases h; exact zs_vk (hts _ q2966) (hl 11 (by decide))
  | 12, h => cases h; exact zs_vk (hts _ q2624) (hl 12 (by decide))
  | 13, h => cases h; exact zs_vk (hts _ q991) (hl 13 (by decide))
  | 14, h => cases h; exact zs_vk (hts _ q2952) (hl 14 (by decide))
  | 15, h => cases h; exact zs_vk (hts _ q2594) (hl 15 (by decide))
  | 16, h => cases h; exact zs_vk (hts _ q968) (hl 16 (by decide))
  | 17, h => cases h; exact zs_vk (hts _ q2950) (hl 17 (by decide))
  | 18, h => cases h; exact zs_vk (hts _ q2592) (hl 18 (by decide))
  | 19, h => cases h; exact zs_vk (hts _ q967) (hl 19 (by decide))
  | 20, h => cases h; exact zs_vk (hts _ q2949) (hl 20 (by decide))
  | 21, h => cases h; exact zs_vk (hts _ q2591) (hl 21 (by decide))
  | 22, h => cases h; exact zs_vk (hts _ q1121) (hl 22 (by decide))
  | 23, h => cases h; exact zs_vk (hts _ q2959) (hl 23 (by decide))
  | 24, h => cases h; exact zs_vk (hts _ q2628) (hl 24 (by decide))
  | 25, h => cases h; exact zs_vk (hts _ q1977) (hl 25 (by decide))
  | 26, h => cases h; exact zs_vk (hts _ q1053) (hl 26 (by decide))
  | 27, h => cases h; exact zs_vk (hts _ q2964) (hl 27 (by decide))
  | 28, h => cases h; exact zs_vk (hts _ q2623) (hl 28 (by decide))
  | 29, h => cases h; exact zs_vk (hts _ q1120) (hl 29 (by decide))
  | 30, h => cases h; exact zs_vk (hts _ q2956) (hl 30 (by decide))
  | 31, h => cases h; exact zs_vk (hts _ q2627) (hl 31 (by decide))
  | 32, h => cases h; exact zs_vk (hts _ q1000) (hl 32 (by decide))
  | 33, h => cases h; exact zs_vk (hts _ q2957) (hl 33 (by decide))
  | 34, h => cases h; exact zs_vk (hts _ q2601) (hl 34 (by decide))
  | 35, h => cases h; exact zs_vk (hts _ q999) (hl 35 (by decide))
  | 36, h => cases h; exact zs_vk (hts _ q2954) (hl 36 (by decide))
  | 37, h => cases h; exact zs_vk (hts _ q2595) (hl 37 (by decide))
  | 38, h => cases h; exact zs_vk (hts _ q2074) (hl 38 (by decide))
  | 39, h => cases h; exact zs_vk (hts _ q1001) (hl 39 (by decide))
  | 40, h => cases h; exact zs_vk (hts _ q2958) (hl 40 (by decide))
  | 41, h => cases h; exact zs_vk (hts _ q2602) (hl 41 (by decide))
  | 42, h => cases h; exact zs_vk (hts _ q1983) (hl 42 (by decide))
  | 43, h => cases h; exact zs_vk (hts _ q1050) (hl 43 (by decide))
  | 44, h => cases h; exact zs_vk (hts _ q2961) (hl 44 (by decide))
  | 45, h => cases h; exact zs_vk (hts _ q2620) (hl 45 (by decide))
  | 46, h => cases h; exact zs_vk (hts _ q1033) (hl 46 (by decide))
  | 47, h => cases h; exact zs_vk (hts _ q2965) (hl 47 (by decide))
  | 48, h => cases h; exact zs_vk (hts _ q2615) (hl 48 (by decide))
  | 49, h => cases h; exact zs_vk (hts _ q994) (hl 49 (by decide))
  | 50, h => cases h; exact zs_vk (hts _ q2955) (hl 50 (by decide))
  | 51, h => cases h; exact zs_vk (hts _ q2596) (hl 51 (by decide))
  | 52, h => cases h; exact zs_vk (hts _ q1985) (hl 52 (by decide))
  | 53, h => cases h; exact zs_vk (hts _ q1052) (hl 53 (by decide))
  | 54, h => cases h; exact zs_vk (hts _ q2963) (hl 54 (by decide))
  | 55, h => cases h; exact zs_vk (hts _ q2622) (hl 55 (by decide))
  | 56, h => cases h; exact zs_vk (hts _ q1069) (hl 56 (by decide))
  | 57, h => cases h; exact zs_vk (hts _ q2967) (hl 57 (by decide))
  | 58, h => cases h; exact zs_vk (hts _ q2625) (hl 58 (by decide))
  | 59, h => cases h; exact zs_vk (hts _ q1984) (hl 59 (by decide))
  | 60, h => cases h; exact zs_vk (hts _ q1051) (hl 60 (by decide))
  | 61, h => cases h; exact zs_vk (hts _ q2962) (hl 61 (by decide))
  | 62, h => cases h; exact zs_vk (hts _ q2621) (hl 62 (by decide))
  | 63, h => cases h; exact zs_vk (hts _ q1136) (hl 63 (by decide))
  | 64, h => cases h; exact zs_vk (hts _ q2960) (hl 64 (by decide))
  | 65, h => cases h; exact zs_vk (hts _ q2629) (hl 65 (by decide))
  | 66, h => cases h; exact zs_vk (hts _ q894) (hl 66 (by decide))
  | 67, h => cases h; exact zs_vk (hts _ q2947) (hl 67 (by decide))
  | 68, h => cases h; exact zs_vk (hts _ q2559) (hl 68 (by decide))
  | 69, h => cases h; exact zs_vk (hts _ q1117) (hl 69 (by decide))
  | 70, h => cases h; exact zs_vk (hts _ q2953) (hl 70 (by decide))
  | 71, h => cases h; exact zs_vk (hts _ q2626) (hl 71 (by decide))
  | 72, h => cases h; exact zs_vk (hts _ q943) (hl 72 (by decide))
  | 73, h => cases h; exact zs_vk (hts _ q2948) (hl 73 (by decide))
  | 74, h => cases h; exact zs_vk (hts _ q2586) (hl 74 (by decide))
  | 75, h => cases h; exact zs_vk (hts _ q1307) (hl 75 (by decide))
  | 76, h => cases h; exact zs_vk (hts _ q975) (hl 76 (by decide))
  | 77, h => cases h; exact zs_vk (hts _ q2951) (hl 77 (by decide))
  | 78, h => cases h; exact zs_vk (hts _ q2593) (hl 78 (by decide))
  | n + 79, h => cases h
def zs_nix : List Nat := [341, 342, 343, 344, 345, 346, 347, 348, 349, 350, 351, 352, 353, 354, 355, 356, 357, 358, 359, 360, 361, 362, 363, 364, 365, 366, 367, 369, 370, 371, 372, 373, 375, 377, 378, 379, 380, 381, 382, 383, 384, 385, 386, 387, 388, 389, 390, 391, 392, 393, 394, 395, 396, 397, 398, 399, 400, 401, 402, 403, 405, 406, 407, 408, 409, 411, 414, 415, 416, 417, 418, 419, 420, 421, 422, 423, 424, 425, 426, 427, 428, 429, 430, 431, 432, 433, 434, 435, 436, 437, 438, 439, 440, 441, 443, 444, 445, 446, 448, 450, 451, 452, 453, 454, 455, 456, 457, 458, 459, 460, 461, 462, 463, 464, 465, 466, 467, 468, 469, 470, 471, 472, 474, 475, 476, 477, 479, 481, 482, 483, 484, 485, 486, 487, 488, 489, 490, 491, 492, 493, 494, 495, 496, 497, 498, 499, 500, 501, 502, 503, 504, 505, 506, 507, 509, 510, 511, 512, 513, 515, 517, 518, 519, 520, 521, 522, 523, 524, 525, 526, 527, 528, 529, 530, 531, 532, 533, 534, 535, 536, 537, 538, 539, 540, 541, 542, 543, 545, 546, 547, 548, 549, 551, 553, 554, 555, 556, 557, 558, 559, 560, 561, 562, 563, 564, 565, 566, 567, 568, 569, 570, 571, 572, 573, 574, 575, 576, 577, 578, 579, 580, 582, 583, 584, 585, 586, 587, 588, 589, 590, 591, 592, 593, 594, 595, 596, 597, 598, 599, 600, 601, 602, 603, 604, 605, 606, 607, 608, 609, 610, 611, 612, 613, 614, 616, 617, 618, 619, 620, 622, 625, 626, 627, 628, 629, 633, 634, 635, 636, 637, 638, 642, 643, 644, 645, 646, 647, 651, 652, 653, 654, 655, 656]
theorem zs_ncat : zs_nix.map (fun k => zs_fl[k]?) = zzNc.map (fun q => some (Cond.not (.castable q.1 q.2))) := by decide +kernel
theorem zs_nc {args : Array Value} {s : State} (hq : ∀ c ∈ zs_fl, c.before args s = true) : ∀ q ∈ zzNc, va_Nc q.1 q.2 s := by
  intro q hm
  have h1 : some (Cond.not (.castable q.1 q.2)) ∈ zzNc.map (fun q => some (Cond.not (.castable q.1 q.2))) := List.mem_map.mpr ⟨q, hm, rfl⟩
  rw [← zs_ncat] at h1
  obtain ⟨k, -, hk⟩ := List.mem_map.mp h1
  exact va_Nc.of (zs_p hq k hk)
theorem zs_if {args : Array Value} {s : State} (hts : ∀ w ∈ lw_tbl, w.before args s = true) : ∀ q ∈ zzIf, va_Fw q.1 q.2.1 q.2.2 s := by
  intro q hm
  simp only [zzIf, List.mem_cons, List.not_mem_nil, or_false] at hm
  rcases hm with rfl | rfl | rfl | rfl | rfl | rfl | rfl | rfl | rfl | rfl | rfl
  · exact va_Fw.of (hts _ q873) (hts _ q872) (hts _ q878) (hts _ q876) (hts _ q874)
  · exact va_Fw.of (hts _ q1788) (hts _ q1787) (hts _ q1791) (hts _ q1790) (hts _ q874)
  · exact va_Fw.of (hts _ q1170) (hts _ q1169) (hts _ q1175) (hts _ q1173) (hts _ q1171)
  · exact va_Fw.of (hts _ q1180) (hts _ q1179) (hts _ q1184) (hts _ q1182) (hts _ q1171)
  · exact va_Fw.of (hts _ q1281) (hts _ q1280) (hts _ q1286) (hts _ q1284) (hts _ q1282)
  · exact va_Fw.of (hts _ q1394) (hts _ q1393) (hts _ q1576) (hts _ q1574) (hts _ q1572)
  · exact va_Fw.of (hts _ q1394) (hts _ q1393) (hts _ q1432) (hts _ q1430) (hts _ q1428)
  · exact va_Fw.of (hts _ q1394) (hts _ q1393) (hts _ q1399) (hts _ q1421) (hts _ q1419)
  · exact va_Fw.of (hts _ q1394) (hts _ q1393) (hts _ q1399) (hts _ q1397) (hts _ q1395)
  · exact va_Fw.of (hts _ q1394) (hts _ q1393) (hts _ q1399) (hts _ q1424) (hts _ q1422)
  · exact va_Fw.of (hts _ q1394) (hts _ q1393) (hts _ q1399) (hts _ q1427) (hts _ q1425)
theorem zs_xs {args : Array Value} {s : State} (hts : ∀ w ∈ lw_tbl, w.before args s = true) : ∀ q ∈ zzXs, va_Nw (Cond.selects q.1 q.2 q.2) s := by
  intro q hm
  simp only [zzXs, List.mem_cons, List.not_mem_nil, or_false] at hm
  rcases hm with rfl | rfl | rfl | rfl
  · exact zs_priv (by decide +kernel) (hts _ q408) (hts _ (lw_all_tbl q409)) (hts _ (lw_all_tbl q445)) rfl
  · exact zs_priv (by decide +kernel) (hts _ q412) (hts _ (lw_all_tbl q413)) (hts _ (lw_all_tbl q445)) rfl
  · exact zs_priv (by decide +kernel) (hts _ q636) (hts _ (lw_all_tbl q637)) (hts _ (lw_all_tbl q445)) rfl
  · exact zs_priv (by decide +kernel) (hts _ q640) (hts _ (lw_all_tbl q641)) (hts _ (lw_all_tbl q445)) rfl
theorem zs_zq_UNA {args : Array Value} {s : State} (hq : ∀ c ∈ zs_fl, c.before args s = true) (hts : ∀ w ∈ lw_tbl, w.before args s = true) {A : Nat → Prop} (hA : ∀ a : Nat, a < s.heap.size → ¬ A a) : vx_Zq Bundle.tN "UNASSIGNED_STACK" Bundle.steD A s s.heap := vx_Zqof (hts _ q558) (hts _ (lw_all_tbl q95)) (zs_p hq 15 (by decide +kernel)) hA
theorem zs_zq_SUP {args : Array Value} {s : State} (hq : ∀ c ∈ zs_fl, c.before args s = true) (hts : ∀ w ∈ lw_tbl, w.before args s = true) {A : Nat → Prop} (hA : ∀ a : Nat, a < s.heap.size → ¬ A a) : vx_Zq Bundle.tN "SUPPRESSED_SENTINEL" Bundle.listD A s s.heap := vx_Zqof (hts _ q560) (hts _ (lw_all_tbl q95)) (zs_p hq 16 (by decide +kernel)) hA
theorem zs_nul {args : Array Value} {s : State} (hq : ∀ c ∈ zs_fl, c.before args s = true) : ∃ fl a : Nat, (Term.static "jdk/internal/util/Preconditions" "SIOOBE_FORMATTER" "Ljava/util/function/BiFunction;").eval args s none [] s = some (va_rf (if fl = 0 then none else some a)) := zs_rn (zs_p hq 11 (by decide +kernel))
theorem zs_A100 {args : Array Value} {s : State} (hts : ∀ w ∈ lw_all, w.before args s = true) : ∃ cA : ClassId, ArrOfT s cA .int ∧ va_RA s cA .int := zs_prim (hts _ q270) (fun _ h => h)
theorem zs_A101 {args : Array Value} {s : State} (hts : ∀ w ∈ lw_all, w.before args s = true) : ∃ cA : ClassId, ArrOfT s cA .byte ∧ va_RA s cA .byte := zs_prim (hts _ q163) (fun _ h => h)
theorem zs_A102 {args : Array Value} {s : State} (hts : ∀ w ∈ lw_all, w.before args s = true) : ∃ cA : ClassId, ArrOfT s cA .long ∧ va_RA s cA .long := zs_prim (hts _ q2435) (fun _ h => h)
theorem zs_A103 {args : Array Value} {s : State} (hts : ∀ w ∈ lw_tbl, w.before args s = true) : ∃ cA : ClassId, ArrOfT s cA (.object "java/lang/Object") ∧ va_RA s cA (.object "java/lang/Object") := zs_over (hts _ q840)
theorem zs_A104 {args : Array Value} {s : State} (hts : ∀ w ∈ lw_tbl, w.before args s = true) : ∃ cA : ClassId, ArrOfT s cA (.object "java/util/HashMap$Node") ∧ va_RA s cA (.object "java/util/HashMap$Node") := zs_over (hts _ q1333)
theorem zs_A105 {args : Array Value} {s : State} (hts : ∀ w ∈ lw_tbl, w.before args s = true) : ∃ cA : ClassId, ArrOfT s cA (.object "java/lang/String") ∧ va_RA s cA (.object "java/lang/String") := zs_over (hts _ q2968)
theorem zs_As {args : Array Value} {s : State} (hts : ∀ w ∈ lw_tbl, w.before args s = true) : ∃ ka : Nat → ClassId, ∀ (t : Nat) (ty : FieldType), zzAr t = some ty → ArrOfT s (ka t) ty ∧ va_RA s (ka t) ty := by
  refine Classical.axiomOfChoice (r := fun t c => ∀ ty : FieldType, zzAr t = some ty → ArrOfT s c ty ∧ va_RA s c ty) fun t => ?_
  by_cases h : ∃ ty, zzAr t = some ty
  · obtain ⟨ty, h⟩ := h
    have h1 := zz_arr100 h
    have h2 := zs_lt106 h
    obtain ⟨i, rfl⟩ := Nat.le.dest h1
    have hi : i < 6 := by omega
    clear h h1 h2
    match i, hi with
    | 0, _ => obtain ⟨c, h⟩ := zs_A100 (fun w hw => hts w (lw_all_tbl hw)); exact ⟨c, fun ty hty => by cases hty; exact h⟩
    | 1, _ => obtain ⟨c, h⟩ := zs_A101 (fun w hw => hts w (lw_all_tbl hw)); exact ⟨c, fun ty hty => by cases hty; exact h⟩
    | 2, _ => obtain ⟨c, h⟩ := zs_A102 (fun w hw => hts w (lw_all_tbl hw)); exact ⟨c, fun ty hty => by cases hty; exact h⟩
    | 3, _ => obtain ⟨c, h⟩ := zs_A103 hts; exact ⟨c, fun ty hty => by cases hty; exact h⟩
    | 4, _ => obtain ⟨c, h⟩ := zs_A104 hts; exact ⟨c, fun ty hty => by cases hty; exact h⟩
    | 5, _ => obtain ⟨c, h⟩ := zs_A105 hts; exact ⟨c, fun ty hty => by cases hty; exact h⟩
  · exact ⟨0, fun ty hty => absurd ⟨ty, hty⟩ h⟩
theorem zs_Ks {args : Array Value} {s : State} (hq : ∀ c ∈ zs_fl, c.before args s = true) (hts : ∀ w ∈ lw_all, w.before args s = true) : ∃ kk : Nat → ClassId × (Nat → Nat), ∀ (c : Nat) (r : vw_C), zzCl c = some r → zz_K s r.1 r.2.1 r.2.2 (kk c).1 (kk c).2 := by
  have hA : ∀ a : Nat, a < s.heap.size → ¬ (fun q : Nat => s.heap.size ≤ q) a := fun a h => Nat.not_le.mpr h
  refine Classical.axiomOfChoice (r := fun c (q : ClassId × (Nat → Nat)) => ∀ r : vw_C, zzCl c = some r → zz_K s r.1 r.2.1 r.2.2 q.1 q.2) fun c => ?_
  by_cases h : ∃ r, zzCl c = some r
  · obtain ⟨r, h⟩ := h
    have hc := zs_lt35 h
    match c, h, hc with
    | 0, h, _ => obtain ⟨q, h⟩ := zs_K_0 hts; exact ⟨q, fun r hr => by cases hr; exact h⟩
    | 1, h, _ => obtain ⟨q, h⟩ := zs_K_1 hts; exact ⟨q, fun r hr => by cases hr; exact h⟩
    | 2, h, _ => obtain ⟨q, h⟩ := zs_K_2 hts; exact ⟨q, fun r hr => by cases hr; exact h⟩
    | 3, h, _ => obtain ⟨q, h⟩ := zs_K_3 hts; exact ⟨q, fun r hr => by cases hr; exact h⟩
    | 4, h, _ => obtain ⟨q, h⟩ := zs_K_4 hts; exact ⟨q, fun r hr => by cases hr; exact h⟩
    | 5, h, _ => obtain ⟨q, h⟩ := zs_K_5 hts; exact ⟨q, fun r hr => by cases hr; exact h⟩
    | 6, h, _ => obtain ⟨q, h⟩ := zs_K_6 hts; exact ⟨q, fun r hr => by cases hr; exact h⟩
    | 7, h, _ => obtain ⟨q, h⟩ := zs_K_7 hts; exact ⟨q, fun r hr => by cases hr; exact h⟩
    | 8, h, _ => obtain ⟨q, h⟩ := zs_K_8 hts; exact ⟨q, fun r hr => by cases hr; exact h⟩
    | 9, h, _ => obtain ⟨q, h⟩ := zs_K_9 hts; exact ⟨q, fun r hr => by cases hr; exact h⟩
    | 10, h, _ => obtain ⟨q, h⟩ := zs_K_10 hts; exact ⟨q, fun r hr => by cases hr; exact h⟩
    | 11, h, _ => obtain ⟨q, h⟩ := zs_K_11 hts; exact ⟨q, fun r hr => by cases hr; exact h⟩
    | 12, h, _ => obtain ⟨q, h⟩ := zs_K_12 hts; exact ⟨q, fun r hr => by cases hr; exact h⟩
    | 13, h, _ => obtain ⟨q, h⟩ := zs_K_13 hts; exact ⟨q, fun r hr => by cases hr; exact h⟩
    | 14, h, _ => obtain ⟨q, h⟩ := zs_K_14 hts; exact ⟨q, fun r hr => by cases hr; exact h⟩
    | 15, h, _ => obtain ⟨q, h⟩ := zs_K_15 hts; exact ⟨q, fun r hr => by cases hr; exact h⟩
    | 16, h, _ => obtain ⟨q, h⟩ := zs_K_16 hts; exact ⟨q, fun r hr => by cases hr; exact h⟩
    | 17, h, _ => obtain ⟨q, h⟩ := zs_K_17 hts; exact ⟨q, fun r hr => by cases hr; exact h⟩
    | 18, h, _ => obtain ⟨q, h⟩ := zs_K_18 hts; exact ⟨q, fun r hr => by cases hr; exact h⟩
    | 19, h, _ => obtain ⟨q, h⟩ := zs_K_19 hts; exact ⟨q, fun r hr => by cases hr; exact h⟩
    | 20, h, _ => obtain ⟨q, h⟩ := zs_K_20 hts; exact ⟨q, fun r hr => by cases hr; exact h⟩
    | 21, h, _ => obtain ⟨q, h⟩ := zs_K_21 hts; exact ⟨q, fun r hr => by cases hr; exact h⟩
    | 22, h, _ => obtain ⟨q, h⟩ := zs_K_22 hts; exact ⟨q, fun r hr => by cases hr; exact h⟩
    | 23, h, _ => obtain ⟨q, h⟩ := zs_K_23 hts; exact ⟨q, fun r hr => by cases hr; exact h⟩
    | 24, h, _ => obtain ⟨q, h⟩ := zs_K_24 hts; exact ⟨q, fun r hr => by cases hr; exact h⟩
    | 25, h, _ => obtain ⟨q, h⟩ := zs_K_25 hts; exact ⟨q, fun r hr => by cases hr; exact h⟩
    | 26, h, _ => obtain ⟨q, h⟩ := zs_K_26 hts; exact ⟨q, fun r hr => by cases hr; exact h⟩
    | 27, h, _ => obtain ⟨q, h⟩ := zs_K_27 hts; exact ⟨q, fun r hr => by cases hr; exact h⟩
    | 28, h, _ => obtain ⟨q, h⟩ := zs_K_28 hts; exact ⟨q, fun r hr => by cases hr; exact h⟩
    | 29, h, _ => cases h
    | 30, h, _ =>
      obtain ⟨a, -, ⟨cell, -, -, hf, -⟩, o0, o1, o2⟩ := zs_o8 hq hA
      obtain ⟨kx, hk, -⟩ := Vm.findClass_spec hf
      obtain ⟨q, h⟩ := zs_KofF (T := zT_30) (N := 3) (A := fun q : Nat => s.heap.size ≤ q) hf hk (by decide) (fun j hj => by
        match j, hj with
        | 0, _ => exact ⟨_, _, o0⟩
        | 1, _ => exact ⟨_, _, o1⟩
        | 2, _ => exact ⟨_, _, o2⟩)
      exact ⟨q, fun r hr => by cases hr; exact h⟩
    | 31, h, _ =>
      obtain ⟨a, -, ⟨cell, -, -, hf, -⟩, o0, o1, o2⟩ := zs_o9 hq hA
      obtain ⟨kx, hk, -⟩ := Vm.findClass_spec hf
      obtain ⟨q, h⟩ := zs_KofF (T := zT_31) (N := 3) (A := fun q : Nat => s.heap.size ≤ q) hf hk (by decide) (fun j hj => by
        match j, hj with
        | 0, _ => exact ⟨_, _, o0⟩
        | 1, _ => exact ⟨_, _, o1⟩
        | 2, _ => exact ⟨_, _, o2⟩)
      exact ⟨q, fun r hr => by cases hr; exact h⟩
    | 32, h, _ =>
      obtain ⟨a, -, ⟨cell, -, -, hf, -⟩, o0, o1, o2⟩ := zs_o10 hq hA
      obtain ⟨kx, hk, -⟩ := Vm.findClass_spec hf
      obtain ⟨q, h⟩ := zs_KofF (T := zT_32) (N := 3) (A := fun q : Nat => s.heap.size ≤ q) hf hk (by decide) (fun j hj => by
        match j, hj with
        | 0, _ => exact ⟨_, _, o0⟩
        | 1, _ => exact ⟨_, _, o1⟩
        | 2, _ => exact ⟨_, _, o2⟩)
      exact ⟨q, fun r hr => by cases hr; exact h⟩
    | 33, h, _ =>
      obtain ⟨a, -, ⟨cell, -, -, hf, -⟩, o0⟩ := zs_o6 hq hA
      obtain ⟨kx, hk, -⟩ := Vm.findClass_spec hf
      obtain ⟨q, h⟩ := zs_KofF (T := zT_33) (N := 1) (A := fun q : Nat => s.heap.size ≤ q) hf hk (by decide) (fun j hj => by
        match j, hj with
        | 0, _ => exact ⟨_, _, o0⟩)
      exact ⟨q, fun r hr => by cases hr; exact h⟩
    | 34, h, _ =>
      obtain ⟨a, -, ⟨cell, -, -, hf, -⟩⟩ := zs_o12 hq hA
      obtain ⟨kx, hk, -⟩ := Vm.findClass_spec hf
      obtain ⟨q, h⟩ := zs_KofF (T := zT_34) (N := 0) (A := fun q : Nat => s.heap.size ≤ q) hf hk (by decide) (fun j hj => by
        exact absurd hj (Nat.not_lt_zero j))
      exact ⟨q, fun r hr => by cases hr; exact h⟩
  · exact ⟨(0, fun _ => 0), fun r hr => absurd ⟨r, hr⟩ h⟩
