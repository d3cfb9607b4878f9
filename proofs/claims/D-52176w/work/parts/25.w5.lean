set_option maxRecDepth 100000
abbrev cX6_both : ByteArray := prog_13_method_13_code
def yX6_both : MethodName := ⟨"DebateHall$Reader", "both", "()LDebateHall$Test;"⟩
def dkwX6_both_1 : List UInt8 := [182, 0, 41, 154, 255, 238, 43, 176]
abbrev dktX6_both_1 : List UInt8 := dkwX6_both_1 ++ []
def dkwX6_both_0 : List UInt8 := [187, 0, 171, 89, 4, 183, 0, 173, 76, 43, 180, 0, 176, 42, 182, 0, 185, 182, 0, 79, 87, 42, 18, 188]
abbrev dktX6_both_0 : List UInt8 := dkwX6_both_0 ++ dktX6_both_1
theorem dksX6_both_0 : cX6_both.data.toList.drop 0 = dktX6_both_0 := by decide +kernel
theorem dksX6_both_1 : cX6_both.data.toList.drop 24 = dktX6_both_1 := dk_seg dksX6_both_0 24 rfl rfl
theorem dX6_both_0 : decode cX6_both 0 = .ok (.new 171, 3) := dk_187 0 171 (dk_at dksX6_both_0 0 rfl rfl)
theorem dX6_both_3 : decode cX6_both 3 = .ok (.dup, 1) := dk_89 (dk_at dksX6_both_0 3 rfl rfl)
theorem dX6_both_4 : decode cX6_both 4 = .ok (.iconst 1, 1) := dk_4 (dk_at dksX6_both_0 4 rfl rfl)
theorem dX6_both_5 : decode cX6_both 5 = .ok (.invokespecial 173, 3) := dk_183 0 173 (dk_at dksX6_both_0 5 rfl rfl)
theorem dX6_both_8 : decode cX6_both 8 = .ok (.astore_n 1, 1) := dk_76 (dk_at dksX6_both_0 8 rfl rfl)
theorem dX6_both_9 : decode cX6_both 9 = .ok (.aload_n 1, 1) := dk_43 (dk_at dksX6_both_0 9 rfl rfl)
theorem dX6_both_10 : decode cX6_both 10 = .ok (.getfield 176, 3) := dk_180 0 176 (dk_at dksX6_both_0 10 rfl rfl)
theorem dX6_both_13 : decode cX6_both 13 = .ok (.aload_n 0, 1) := dk_42 (dk_at dksX6_both_0 13 rfl rfl)
theorem dX6_both_14 : decode cX6_both 14 = .ok (.invokevirtual 185, 3) := dk_182 0 185 (dk_at dksX6_both_0 14 rfl rfl)
theorem dX6_both_17 : decode cX6_both 17 = .ok (.invokevirtual 79, 3) := dk_182 0 79 (dk_at dksX6_both_0 17 rfl rfl)
theorem dX6_both_20 : decode cX6_both 20 = .ok (.pop, 1) := dk_87 (dk_at dksX6_both_0 20 rfl rfl)
theorem dX6_both_21 : decode cX6_both 21 = .ok (.aload_n 0, 1) := dk_42 (dk_at dksX6_both_0 21 rfl rfl)
theorem dX6_both_22 : decode cX6_both 22 = .ok (.ldc 188, 2) := dk_18 188 (dk_at dksX6_both_0 22 rfl rfl)
theorem dX6_both_24 : decode cX6_both 24 = .ok (.invokevirtual 41, 3) := dk_182 0 41 (dk_at dksX6_both_1 0 rfl rfl)
theorem dX6_both_27 : decode cX6_both 27 = .ok (.ifCond .ne (-18), 3) := dk_154 255 238 (dk_at dksX6_both_1 3 rfl rfl)
theorem dX6_both_30 : decode cX6_both 30 = .ok (.aload_n 1, 1) := dk_43 (dk_at dksX6_both_1 6 rfl rfl)
theorem dX6_both_31 : decode cX6_both 31 = .ok (.areturn, 1) := dk_176 (dk_at dksX6_both_1 7 rfl rfl)
abbrev cX6_single : ByteArray := prog_13_method_14_code
def yX6_single : MethodName := ⟨"DebateHall$Reader", "single", "()LDebateHall$Test;"⟩
def dkwX6_single_6 : List UInt8 := [187, 0, 212, 89, 43, 180, 0, 214, 42, 178, 0, 91, 182, 0, 86, 183, 0, 218, 176]
abbrev dktX6_single_6 : List UInt8 := dkwX6_single_6 ++ []
def dkwX6_single_5 : List UInt8 := [43, 18, 210, 182, 0, 37, 154, 0, 8, 42, 182, 0, 44, 191, 42, 89, 180, 0, 15, 4, 96, 181, 0, 15]
abbrev dktX6_single_5 : List UInt8 := dkwX6_single_5 ++ dktX6_single_6
def dkwX6_single_4 : List UInt8 := [182, 0, 37, 154, 0, 35, 43, 18, 206, 182, 0, 37, 154, 0, 26, 43, 18, 208, 182, 0, 37, 154, 0, 17]
abbrev dktX6_single_4 : List UInt8 := dkwX6_single_4 ++ dktX6_single_5
def dkwX6_single_3 : List UInt8 := [182, 0, 75, 42, 89, 180, 0, 52, 4, 100, 181, 0, 52, 43, 176, 42, 182, 0, 29, 76, 43, 18, 204]
abbrev dktX6_single_3 : List UInt8 := dkwX6_single_3 ++ dktX6_single_4
def dkwX6_single_2 : List UInt8 := [18, 200, 182, 0, 37, 153, 0, 32, 42, 18, 200, 182, 0, 192, 42, 182, 0, 152, 76, 42, 18, 202]
abbrev dktX6_single_2 : List UInt8 := dkwX6_single_2 ++ dktX6_single_3
def dkwX6_single_1 : List UInt8 := [182, 0, 185, 183, 0, 197, 76, 42, 89, 180, 0, 52, 4, 100, 181, 0, 52, 43, 176, 42, 182, 0, 29]
abbrev dktX6_single_1 : List UInt8 := dkwX6_single_1 ++ dktX6_single_2
def dkwX6_single_0 : List UInt8 := [42, 182, 0, 29, 18, 190, 182, 0, 37, 153, 0, 33, 42, 18, 190, 182, 0, 192, 187, 0, 195, 89, 42]
abbrev dktX6_single_0 : List UInt8 := dkwX6_single_0 ++ dktX6_single_1
theorem dksX6_single_0 : cX6_single.data.toList.drop 0 = dktX6_single_0 := by decide +kernel
theorem dksX6_single_1 : cX6_single.data.toList.drop 23 = dktX6_single_1 := dk_seg dksX6_single_0 23 rfl rfl
theorem dksX6_single_2 : cX6_single.data.toList.drop 46 = dktX6_single_2 := dk_seg dksX6_single_1 23 rfl rfl
theorem dksX6_single_3 : cX6_single.data.toList.drop 68 = dktX6_single_3 := dk_seg dksX6_single_2 22 rfl rfl
theorem dksX6_single_4 : cX6_single.data.toList.drop 91 = dktX6_single_4 := dk_seg dksX6_single_3 23 rfl rfl
theorem dksX6_single_5 : cX6_single.data.toList.drop 115 = dktX6_single_5 := dk_seg dksX6_single_4 24 rfl rfl
theorem dksX6_single_6 : cX6_single.data.toList.drop 139 = dktX6_single_6 := dk_seg dksX6_single_5 24 rfl rfl
theorem dX6_single_0 : decode cX6_single 0 = .ok (.aload_n 0, 1) := dk_42 (dk_at dksX6_single_0 0 rfl rfl)
theorem dX6_single_1 : decode cX6_single 1 = .ok (.invokevirtual 29, 3) := dk_182 0 29 (dk_at dksX6_single_0 1 rfl rfl)
theorem dX6_single_4 : decode cX6_single 4 = .ok (.ldc 190, 2) := dk_18 190 (dk_at dksX6_single_0 4 rfl rfl)
theorem dX6_single_6 : decode cX6_single 6 = .ok (.invokevirtual 37, 3) := dk_182 0 37 (dk_at dksX6_single_0 6 rfl rfl)
theorem dX6_single_9 : decode cX6_single 9 = .ok (.ifCond .eq 33, 3) := dk_153 0 33 (dk_at dksX6_single_0 9 rfl rfl)
theorem dX6_single_12 : decode cX6_single 12 = .ok (.aload_n 0, 1) := dk_42 (dk_at dksX6_single_0 12 rfl rfl)
theorem dX6_single_13 : decode cX6_single 13 = .ok (.ldc 190, 2) := dk_18 190 (dk_at dksX6_single_0 13 rfl rfl)
theorem dX6_single_15 : decode cX6_single 15 = .ok (.invokevirtual 192, 3) := dk_182 0 192 (dk_at dksX6_single_0 15 rfl rfl)
theorem dX6_single_18 : decode cX6_single 18 = .ok (.new 195, 3) := dk_187 0 195 (dk_at dksX6_single_0 18 rfl rfl)
theorem dX6_single_21 : decode cX6_single 21 = .ok (.dup, 1) := dk_89 (dk_at dksX6_single_0 21 rfl rfl)
theorem dX6_single_22 : decode cX6_single 22 = .ok (.aload_n 0, 1) := dk_42 (dk_at dksX6_single_0 22 rfl rfl)
theorem dX6_single_23 : decode cX6_single 23 = .ok (.invokevirtual 185, 3) := dk_182 0 185 (dk_at dksX6_single_1 0 rfl rfl)
theorem dX6_single_26 : decode cX6_single 26 = .ok (.invokespecial 197, 3) := dk_183 0 197 (dk_at dksX6_single_1 3 rfl rfl)
theorem dX6_single_29 : decode cX6_single 29 = .ok (.astore_n 1, 1) := dk_76 (dk_at dksX6_single_1 6 rfl rfl)
theorem dX6_single_30 : decode cX6_single 30 = .ok (.aload_n 0, 1) := dk_42 (dk_at dksX6_single_1 7 rfl rfl)
theorem dX6_single_31 : decode cX6_single 31 = .ok (.dup, 1) := dk_89 (dk_at dksX6_single_1 8 rfl rfl)
theorem dX6_single_32 : decode cX6_single 32 = .ok (.getfield 52, 3) := dk_180 0 52 (dk_at dksX6_single_1 9 rfl rfl)
theorem dX6_single_35 : decode cX6_single 35 = .ok (.iconst 1, 1) := dk_4 (dk_at dksX6_single_1 12 rfl rfl)
theorem dX6_single_36 : decode cX6_single 36 = .ok (.isub, 1) := dk_100 (dk_at dksX6_single_1 13 rfl rfl)
theorem dX6_single_37 : decode cX6_single 37 = .ok (.putfield 52, 3) := dk_181 0 52 (dk_at dksX6_single_1 14 rfl rfl)
theorem dX6_single_40 : decode cX6_single 40 = .ok (.aload_n 1, 1) := dk_43 (dk_at dksX6_single_1 17 rfl rfl)
theorem dX6_single_41 : decode cX6_single 41 = .ok (.areturn, 1) := dk_176 (dk_at dksX6_single_1 18 rfl rfl)
theorem dX6_single_42 : decode cX6_single 42 = .ok (.aload_n 0, 1) := dk_42 (dk_at dksX6_single_1 19 rfl rfl)
theorem dX6_single_43 : decode cX6_single 43 = .ok (.invokevirtual 29, 3) := dk_182 0 29 (dk_at dksX6_single_1 20 rfl rfl)
theorem dX6_single_46 : decode cX6_single 46 = .ok (.ldc 200, 2) := dk_18 200 (dk_at dksX6_single_2 0 rfl rfl)
theorem dX6_single_48 : decode cX6_single 48 = .ok (.invokevirtual 37, 3) := dk_182 0 37 (dk_at dksX6_single_2 2 rfl rfl)
theorem dX6_single_51 : decode cX6_single 51 = .ok (.ifCond .eq 32, 3) := dk_153 0 32 (dk_at dksX6_single_2 5 rfl rfl)
theorem dX6_single_54 : decode cX6_single 54 = .ok (.aload_n 0, 1) := dk_42 (dk_at dksX6_single_2 8 rfl rfl)
theorem dX6_single_55 : decode cX6_single 55 = .ok (.ldc 200, 2) := dk_18 200 (dk_at dksX6_single_2 9 rfl rfl)
theorem dX6_single_57 : decode cX6_single 57 = .ok (.invokevirtual 192, 3) := dk_182 0 192 (dk_at dksX6_single_2 11 rfl rfl)
theorem dX6_single_60 : decode cX6_single 60 = .ok (.aload_n 0, 1) := dk_42 (dk_at dksX6_single_2 14 rfl rfl)
theorem dX6_single_61 : decode cX6_single 61 = .ok (.invokevirtual 152, 3) := dk_182 0 152 (dk_at dksX6_single_2 15 rfl rfl)
theorem dX6_single_64 : decode cX6_single 64 = .ok (.astore_n 1, 1) := dk_76 (dk_at dksX6_single_2 18 rfl rfl)
theorem dX6_single_65 : decode cX6_single 65 = .ok (.aload_n 0, 1) := dk_42 (dk_at dksX6_single_2 19 rfl rfl)
theorem dX6_single_66 : decode cX6_single 66 = .ok (.ldc 202, 2) := dk_18 202 (dk_at dksX6_single_2 20 rfl rfl)
theorem dX6_single_68 : decode cX6_single 68 = .ok (.invokevirtual 75, 3) := dk_182 0 75 (dk_at dksX6_single_3 0 rfl rfl)
theorem dX6_single_71 : decode cX6_single 71 = .ok (.aload_n 0, 1) := dk_42 (dk_at dksX6_single_3 3 rfl rfl)
theorem dX6_single_72 : decode cX6_single 72 = .ok (.dup, 1) := dk_89 (dk_at dksX6_single_3 4 rfl rfl)
theorem dX6_single_73 : decode cX6_single 73 = .ok (.getfield 52, 3) := dk_180 0 52 (dk_at dksX6_single_3 5 rfl rfl)
theorem dX6_single_76 : decode cX6_single 76 = .ok (.iconst 1, 1) := dk_4 (dk_at dksX6_single_3 8 rfl rfl)
theorem dX6_single_77 : decode cX6_single 77 = .ok (.isub, 1) := dk_100 (dk_at dksX6_single_3 9 rfl rfl)
theorem dX6_single_78 : decode cX6_single 78 = .ok (.putfield 52, 3) := dk_181 0 52 (dk_at dksX6_single_3 10 rfl rfl)
theorem dX6_single_81 : decode cX6_single 81 = .ok (.aload_n 1, 1) := dk_43 (dk_at dksX6_single_3 13 rfl rfl)
theorem dX6_single_82 : decode cX6_single 82 = .ok (.areturn, 1) := dk_176 (dk_at dksX6_single_3 14 rfl rfl)
theorem dX6_single_83 : decode cX6_single 83 = .ok (.aload_n 0, 1) := dk_42 (dk_at dksX6_single_3 15 rfl rfl)
theorem dX6_single_84 : decode cX6_single 84 = .ok (.invokevirtual 29, 3) := dk_182 0 29 (dk_at dksX6_single_3 16 rfl rfl)
theorem dX6_single_87 : decode cX6_single 87 = .ok (.astore_n 1, 1) := dk_76 (dk_at dksX6_single_3 19 rfl rfl)
theorem dX6_single_88 : decode cX6_single 88 = .ok (.aload_n 1, 1) := dk_43 (dk_at dksX6_single_3 20 rfl rfl)
theorem dX6_single_89 : decode cX6_single 89 = .ok (.ldc 204, 2) := dk_18 204 (dk_at dksX6_single_3 21 rfl rfl)
theorem dX6_single_91 : decode cX6_single 91 = .ok (.invokevirtual 37, 3) := dk_182 0 37 (dk_at dksX6_single_4 0 rfl rfl)
theorem dX6_single_94 : decode cX6_single 94 = .ok (.ifCond .ne 35, 3) := dk_154 0 35 (dk_at dksX6_single_4 3 rfl rfl)
theorem dX6_single_97 : decode cX6_single 97 = .ok (.aload_n 1, 1) := dk_43 (dk_at dksX6_single_4 6 rfl rfl)
theorem dX6_single_98 : decode cX6_single 98 = .ok (.ldc 206, 2) := dk_18 206 (dk_at dksX6_single_4 7 rfl rfl)
theorem dX6_single_100 : decode cX6_single 100 = .ok (.invokevirtual 37, 3) := dk_182 0 37 (dk_at dksX6_single_4 9 rfl rfl)
theorem dX6_single_103 : decode cX6_single 103 = .ok (.ifCond .ne 26, 3) := dk_154 0 26 (dk_at dksX6_single_4 12 rfl rfl)
theorem dX6_single_106 : decode cX6_single 106 = .ok (.aload_n 1, 1) := dk_43 (dk_at dksX6_single_4 15 rfl rfl)
theorem dX6_single_107 : decode cX6_single 107 = .ok (.ldc 208, 2) := dk_18 208 (dk_at dksX6_single_4 16 rfl rfl)
theorem dX6_single_109 : decode cX6_single 109 = .ok (.invokevirtual 37, 3) := dk_182 0 37 (dk_at dksX6_single_4 18 rfl rfl)
theorem dX6_single_112 : decode cX6_single 112 = .ok (.ifCond .ne 17, 3) := dk_154 0 17 (dk_at dksX6_single_4 21 rfl rfl)
theorem dX6_single_115 : decode cX6_single 115 = .ok (.aload_n 1, 1) := dk_43 (dk_at dksX6_single_5 0 rfl rfl)
theorem dX6_single_116 : decode cX6_single 116 = .ok (.ldc 210, 2) := dk_18 210 (dk_at dksX6_single_5 1 rfl rfl)
theorem dX6_single_118 : decode cX6_single 118 = .ok (.invokevirtual 37, 3) := dk_182 0 37 (dk_at dksX6_single_5 3 rfl rfl)
theorem dX6_single_121 : decode cX6_single 121 = .ok (.ifCond .ne 8, 3) := dk_154 0 8 (dk_at dksX6_single_5 6 rfl rfl)
theorem dX6_single_124 : decode cX6_single 124 = .ok (.aload_n 0, 1) := dk_42 (dk_at dksX6_single_5 9 rfl rfl)
theorem dX6_single_125 : decode cX6_single 125 = .ok (.invokevirtual 44, 3) := dk_182 0 44 (dk_at dksX6_single_5 10 rfl rfl)
theorem dX6_single_128 : decode cX6_single 128 = .ok (.athrow, 1) := dk_191 (dk_at dksX6_single_5 13 rfl rfl)
theorem dX6_single_129 : decode cX6_single 129 = .ok (.aload_n 0, 1) := dk_42 (dk_at dksX6_single_5 14 rfl rfl)
theorem dX6_single_130 : decode cX6_single 130 = .ok (.dup, 1) := dk_89 (dk_at dksX6_single_5 15 rfl rfl)
theorem dX6_single_131 : decode cX6_single 131 = .ok (.getfield 15, 3) := dk_180 0 15 (dk_at dksX6_single_5 16 rfl rfl)
theorem dX6_single_134 : decode cX6_single 134 = .ok (.iconst 1, 1) := dk_4 (dk_at dksX6_single_5 19 rfl rfl)
theorem dX6_single_135 : decode cX6_single 135 = .ok (.iadd, 1) := dk_96 (dk_at dksX6_single_5 20 rfl rfl)
theorem dX6_single_136 : decode cX6_single 136 = .ok (.putfield 15, 3) := dk_181 0 15 (dk_at dksX6_single_5 21 rfl rfl)
theorem dX6_single_139 : decode cX6_single 139 = .ok (.new 212, 3) := dk_187 0 212 (dk_at dksX6_single_6 0 rfl rfl)
theorem dX6_single_142 : decode cX6_single 142 = .ok (.dup, 1) := dk_89 (dk_at dksX6_single_6 3 rfl rfl)
theorem dX6_single_143 : decode cX6_single 143 = .ok (.aload_n 1, 1) := dk_43 (dk_at dksX6_single_6 4 rfl rfl)
theorem dX6_single_144 : decode cX6_single 144 = .ok (.getfield 214, 3) := dk_180 0 214 (dk_at dksX6_single_6 5 rfl rfl)
theorem dX6_single_147 : decode cX6_single 147 = .ok (.aload_n 0, 1) := dk_42 (dk_at dksX6_single_6 8 rfl rfl)
theorem dX6_single_148 : decode cX6_single 148 = .ok (.getstatic 91, 3) := dk_178 0 91 (dk_at dksX6_single_6 9 rfl rfl)
theorem dX6_single_151 : decode cX6_single 151 = .ok (.invokevirtual 86, 3) := dk_182 0 86 (dk_at dksX6_single_6 12 rfl rfl)
theorem dX6_single_154 : decode cX6_single 154 = .ok (.invokespecial 218, 3) := dk_183 0 218 (dk_at dksX6_single_6 15 rfl rfl)
theorem dX6_single_157 : decode cX6_single 157 = .ok (.areturn, 1) := dk_176 (dk_at dksX6_single_6 18 rfl rfl)
abbrev cX6_test : ByteArray := prog_13_method_12_code
def yX6_test : MethodName := ⟨"DebateHall$Reader", "test", "()LDebateHall$Test;"⟩
def dkwX6_test_1 : List UInt8 := [182, 0, 41, 154, 255, 238, 43, 176]
abbrev dktX6_test_1 : List UInt8 := dkwX6_test_1 ++ []
def dkwX6_test_0 : List UInt8 := [187, 0, 171, 89, 3, 183, 0, 173, 76, 43, 180, 0, 176, 42, 182, 0, 180, 182, 0, 79, 87, 42, 18, 183]
abbrev dktX6_test_0 : List UInt8 := dkwX6_test_0 ++ dktX6_test_1
theorem dksX6_test_0 : cX6_test.data.toList.drop 0 = dktX6_test_0 := by decide +kernel
theorem dksX6_test_1 : cX6_test.data.toList.drop 24 = dktX6_test_1 := dk_seg dksX6_test_0 24 rfl rfl
theorem dX6_test_0 : decode cX6_test 0 = .ok (.new 171, 3) := dk_187 0 171 (dk_at dksX6_test_0 0 rfl rfl)
theorem dX6_test_3 : decode cX6_test 3 = .ok (.dup, 1) := dk_89 (dk_at dksX6_test_0 3 rfl rfl)
theorem dX6_test_4 : decode cX6_test 4 = .ok (.iconst 0, 1) := dk_3 (dk_at dksX6_test_0 4 rfl rfl)
theorem dX6_test_5 : decode cX6_test 5 = .ok (.invokespecial 173, 3) := dk_183 0 173 (dk_at dksX6_test_0 5 rfl rfl)
theorem dX6_test_8 : decode cX6_test 8 = .ok (.astore_n 1, 1) := dk_76 (dk_at dksX6_test_0 8 rfl rfl)
theorem dX6_test_9 : decode cX6_test 9 = .ok (.aload_n 1, 1) := dk_43 (dk_at dksX6_test_0 9 rfl rfl)
theorem dX6_test_10 : decode cX6_test 10 = .ok (.getfield 176, 3) := dk_180 0 176 (dk_at dksX6_test_0 10 rfl rfl)
theorem dX6_test_13 : decode cX6_test 13 = .ok (.aload_n 0, 1) := dk_42 (dk_at dksX6_test_0 13 rfl rfl)
theorem dX6_test_14 : decode cX6_test 14 = .ok (.invokevirtual 180, 3) := dk_182 0 180 (dk_at dksX6_test_0 14 rfl rfl)
theorem dX6_test_17 : decode cX6_test 17 = .ok (.invokevirtual 79, 3) := dk_182 0 79 (dk_at dksX6_test_0 17 rfl rfl)
theorem dX6_test_20 : decode cX6_test 20 = .ok (.pop, 1) := dk_87 (dk_at dksX6_test_0 20 rfl rfl)
theorem dX6_test_21 : decode cX6_test 21 = .ok (.aload_n 0, 1) := dk_42 (dk_at dksX6_test_0 21 rfl rfl)
theorem dX6_test_22 : decode cX6_test 22 = .ok (.ldc 183, 2) := dk_18 183 (dk_at dksX6_test_0 22 rfl rfl)
theorem dX6_test_24 : decode cX6_test 24 = .ok (.invokevirtual 41, 3) := dk_182 0 41 (dk_at dksX6_test_1 0 rfl rfl)
theorem dX6_test_27 : decode cX6_test 27 = .ok (.ifCond .ne (-18), 3) := dk_154 255 238 (dk_at dksX6_test_1 3 rfl rfl)
theorem dX6_test_30 : decode cX6_test 30 = .ok (.aload_n 1, 1) := dk_43 (dk_at dksX6_test_1 6 rfl rfl)
theorem dX6_test_31 : decode cX6_test 31 = .ok (.areturn, 1) := dk_176 (dk_at dksX6_test_1 7 rfl rfl)
theorem q1006 : (Jvm.Cond.classLink "DebateHall$Reader" (171 : Nat) "DebateHall$Several") ∈ lw_all := lw_g (lw_at lw_m4 206 rfl) rfl
theorem q121 : (Jvm.Cond.initialized "DebateHall$Several") ∈ lw_all := lw_g (lw_at lw_m1 41 rfl) rfl
theorem zl_DebateHall_Several : Cond.initialized "DebateHall$Several" ∈ lw_all := q121
theorem q1010 : (Jvm.Cond.code ({ cls := "DebateHall$Several", name := "<init>", desc := "(Z)V" } : Jvm.MethodName) prog_16_method_1_code (2 : Nat) (Option.none : Option Jvm.ClassFile.FieldType)) ∈ lw_all := lw_g (lw_at lw_m4 210 rfl) rfl
theorem zk_X14_init : zz_cd yX14_init cX14_init 2 none none ∈ lw_all := q1010
theorem zy_X14_init : zz_yok yX14_init 1 = true := by decide +kernel
theorem q1008 : (Jvm.Cond.methodLink "DebateHall$Reader" (173 : Nat) ({ cls := "DebateHall$Several", name := "<init>", desc := "(Z)V" } : Jvm.MethodName)) ∈ lw_all := lw_g (lw_at lw_m4 208 rfl) rfl
theorem q1009 : (Jvm.Cond.instanceMethod ({ cls := "DebateHall$Several", name := "<init>", desc := "(Z)V" } : Jvm.MethodName)) ∈ lw_all := lw_g (lw_at lw_m4 209 rfl) rfl
theorem q1019 : (Jvm.Cond.fieldLinkNest "DebateHall$Reader" (176 : Nat) "DebateHall$Several" "tests" "Ljava/util/ArrayList;" "DebateHall") ∈ lw_tbl := lw_at lw_m4 219 rfl
theorem q1032 : (Jvm.Cond.code ({ cls := "DebateHall$Reader", name := "single", desc := "()LDebateHall$Test;" } : Jvm.MethodName) prog_13_method_14_code (2 : Nat) (Option.some (Jvm.ClassFile.FieldType.object "DebateHall$Test"))) ∈ lw_all := lw_g (lw_at lw_m4 232 rfl) rfl
theorem zk_X6_single : zz_cd yX6_single cX6_single 2 (some (.object "DebateHall$Test")) none ∈ lw_all := q1032
theorem zy_X6_single : zz_yok yX6_single 0 = true := by decide +kernel
theorem q1067 : (Jvm.Cond.methodLink "DebateHall$Reader" (79 : Nat) ({ cls := "java/util/ArrayList", name := "add", desc := "(Ljava/lang/Object;)Z" } : Jvm.MethodName)) ∈ lw_all := lw_g (lw_at lw_m5 27 rfl) rfl
theorem q1029 : (Jvm.Cond.methodLink "DebateHall$Reader" (185 : Nat) ({ cls := "DebateHall$Reader", name := "single", desc := "()LDebateHall$Test;" } : Jvm.MethodName)) ∈ lw_all := lw_g (lw_at lw_m4 229 rfl) rfl
theorem q1031 : (Jvm.Cond.instanceMethod ({ cls := "DebateHall$Reader", name := "single", desc := "()LDebateHall$Test;" } : Jvm.MethodName)) ∈ lw_all := lw_g (lw_at lw_m4 231 rfl) rfl
theorem q1037 : (Jvm.Cond.code ({ cls := "DebateHall$Reader", name := "deeper", desc := "(Ljava/lang/String;)V" } : Jvm.MethodName) prog_13_method_7_code (2 : Nat) (Option.none : Option Jvm.ClassFile.FieldType)) ∈ lw_all := lw_g (lw_at lw_m4 237 rfl) rfl
theorem zk_X6_deeper : zz_cd yX6_deeper cX6_deeper 2 none none ∈ lw_all := q1037
theorem zy_X6_deeper : zz_yok yX6_deeper 1 = true := by decide +kernel
theorem q1005 : (Jvm.Cond.code ({ cls := "DebateHall$Reader", name := "test", desc := "()LDebateHall$Test;" } : Jvm.MethodName) prog_13_method_12_code (2 : Nat) (Option.some (Jvm.ClassFile.FieldType.object "DebateHall$Test"))) ∈ lw_all := lw_g (lw_at lw_m4 205 rfl) rfl
theorem zk_X6_test : zz_cd yX6_test cX6_test 2 (some (.object "DebateHall$Test")) none ∈ lw_all := q1005
theorem zy_X6_test : zz_yok yX6_test 0 = true := by decide +kernel
theorem q972 : (Jvm.Cond.code ({ cls := "DebateHall$Reader", name := "take", desc := "(Ljava/lang/String;)V" } : Jvm.MethodName) prog_13_method_5_code (2 : Nat) (Option.none : Option Jvm.ClassFile.FieldType)) ∈ lw_all := lw_g (lw_at lw_m4 172 rfl) rfl
theorem zk_X6_take_2 : zz_cd yX6_take_2 cX6_take_2 2 none none ∈ lw_all := q972
theorem zy_X6_take_2 : zz_yok yX6_take_2 1 = true := by decide +kernel
theorem q969 : (Jvm.Cond.methodLink "DebateHall$Reader" (75 : Nat) ({ cls := "DebateHall$Reader", name := "take", desc := "(Ljava/lang/String;)V" } : Jvm.MethodName)) ∈ lw_all := lw_g (lw_at lw_m4 169 rfl) rfl
theorem q971 : (Jvm.Cond.instanceMethod ({ cls := "DebateHall$Reader", name := "take", desc := "(Ljava/lang/String;)V" } : Jvm.MethodName)) ∈ lw_all := lw_g (lw_at lw_m4 171 rfl) rfl
theorem q1002 : (Jvm.Cond.methodLink "DebateHall$Reader" (152 : Nat) ({ cls := "DebateHall$Reader", name := "test", desc := "()LDebateHall$Test;" } : Jvm.MethodName)) ∈ lw_all := lw_g (lw_at lw_m4 202 rfl) rfl
theorem q1004 : (Jvm.Cond.instanceMethod ({ cls := "DebateHall$Reader", name := "test", desc := "()LDebateHall$Test;" } : Jvm.MethodName)) ∈ lw_all := lw_g (lw_at lw_m4 204 rfl) rfl
theorem q1034 : (Jvm.Cond.methodLink "DebateHall$Reader" (192 : Nat) ({ cls := "DebateHall$Reader", name := "deeper", desc := "(Ljava/lang/String;)V" } : Jvm.MethodName)) ∈ lw_all := lw_g (lw_at lw_m4 234 rfl) rfl
theorem q1036 : (Jvm.Cond.instanceMethod ({ cls := "DebateHall$Reader", name := "deeper", desc := "(Ljava/lang/String;)V" } : Jvm.MethodName)) ∈ lw_all := lw_g (lw_at lw_m4 236 rfl) rfl
theorem q1038 : (Jvm.Cond.classLink "DebateHall$Reader" (195 : Nat) "DebateHall$Denied") ∈ lw_all := lw_g (lw_at lw_m4 238 rfl) rfl
theorem q122 : (Jvm.Cond.initialized "DebateHall$Denied") ∈ lw_all := lw_g (lw_at lw_m1 42 rfl) rfl
theorem zl_DebateHall_Denied : Cond.initialized "DebateHall$Denied" ∈ lw_all := q122
theorem q1042 : (Jvm.Cond.code ({ cls := "DebateHall$Denied", name := "<init>", desc := "(LDebateHall$Test;)V" } : Jvm.MethodName) prog_4_method_1_code (2 : Nat) (Option.none : Option Jvm.ClassFile.FieldType)) ∈ lw_all := lw_g (lw_at lw_m5 2 rfl) rfl
theorem zk_X15_init : zz_cd yX15_init cX15_init 2 none none ∈ lw_all := q1042
theorem zy_X15_init : zz_yok yX15_init 1 = true := by decide +kernel
theorem q1040 : (Jvm.Cond.methodLink "DebateHall$Reader" (197 : Nat) ({ cls := "DebateHall$Denied", name := "<init>", desc := "(LDebateHall$Test;)V" } : Jvm.MethodName)) ∈ lw_all := lw_g (lw_at lw_m5 0 rfl) rfl
theorem q1041 : (Jvm.Cond.instanceMethod ({ cls := "DebateHall$Denied", name := "<init>", desc := "(LDebateHall$Test;)V" } : Jvm.MethodName)) ∈ lw_all := lw_g (lw_at lw_m5 1 rfl) rfl
theorem q1054 : (Jvm.Cond.classLink "DebateHall$Reader" (212 : Nat) "DebateHall$Asked") ∈ lw_all := lw_g (lw_at lw_m5 14 rfl) rfl
theorem q123 : (Jvm.Cond.initialized "DebateHall$Asked") ∈ lw_all := lw_g (lw_at lw_m1 43 rfl) rfl
theorem zl_DebateHall_Asked : Cond.initialized "DebateHall$Asked" ∈ lw_all := q123
theorem q376 : (Jvm.Cond.fieldLinkNest "DebateHall$Reader" (214 : Nat) "DebateHall$Token" "text" "Ljava/lang/String;" "DebateHall") ∈ lw_tbl := lw_at lw_m2 56 rfl
theorem q906 : (Jvm.Cond.fieldLink "DebateHall$Reader" (91 : Nat) "DebateHall$Sort" "NAME" "LDebateHall$Sort;") ∈ lw_all := lw_g (lw_at lw_m4 106 rfl) rfl
theorem q1058 : (Jvm.Cond.code ({ cls := "DebateHall$Asked", name := "<init>", desc := "(Ljava/lang/String;LDebateHall$Token;)V" } : Jvm.MethodName) prog_2_method_1_code (3 : Nat) (Option.none : Option Jvm.ClassFile.FieldType)) ∈ lw_all := lw_g (lw_at lw_m5 18 rfl) rfl
theorem zk_X16_init : zz_cd yX16_init cX16_init 3 none none ∈ lw_all := q1058
theorem zy_X16_init : zz_yok yX16_init 2 = true := by decide +kernel
theorem q1056 : (Jvm.Cond.methodLink "DebateHall$Reader" (218 : Nat) ({ cls := "DebateHall$Asked", name := "<init>", desc := "(Ljava/lang/String;LDebateHall$Token;)V" } : Jvm.MethodName)) ∈ lw_all := lw_g (lw_at lw_m5 16 rfl) rfl
theorem q1057 : (Jvm.Cond.instanceMethod ({ cls := "DebateHall$Asked", name := "<init>", desc := "(Ljava/lang/String;LDebateHall$Token;)V" } : Jvm.MethodName)) ∈ lw_all := lw_g (lw_at lw_m5 17 rfl) rfl
theorem q1028 : (Jvm.Cond.code ({ cls := "DebateHall$Reader", name := "both", desc := "()LDebateHall$Test;" } : Jvm.MethodName) prog_13_method_13_code (2 : Nat) (Option.some (Jvm.ClassFile.FieldType.object "DebateHall$Test"))) ∈ lw_all := lw_g (lw_at lw_m4 228 rfl) rfl
theorem zk_X6_both : zz_cd yX6_both cX6_both 2 (some (.object "DebateHall$Test")) none ∈ lw_all := q1028
theorem zy_X6_both : zz_yok yX6_both 0 = true := by decide +kernel
theorem q1025 : (Jvm.Cond.methodLink "DebateHall$Reader" (180 : Nat) ({ cls := "DebateHall$Reader", name := "both", desc := "()LDebateHall$Test;" } : Jvm.MethodName)) ∈ lw_all := lw_g (lw_at lw_m4 225 rfl) rfl
theorem q1027 : (Jvm.Cond.instanceMethod ({ cls := "DebateHall$Reader", name := "both", desc := "()LDebateHall$Test;" } : Jvm.MethodName)) ∈ lw_all := lw_g (lw_at lw_m4 227 rfl) rfl
def wp_X6_both_L9 (Z : zzG) (r_X6_both : Option Nat → zzM → Nat → Nat → (Option Value → zzM → Prop) → (Nat → Nat → zzM → Prop) → Prop) (r_X6_single : Option Nat → zzM → Nat → Nat → (Option Value → zzM → Prop) → (Nat → Nat → zzM → Prop) → Prop) (r_X6_test : Option Nat → zzM → Nat → Nat → (Option Value → zzM → Prop) → (Nat → Nat → zzM → Prop) → Prop) (K : Option Value → zzM → Prop) (X : Nat → Nat → zzM → Prop) : Nat → Option Nat → Option Nat → zzM → Nat → Nat → Prop
  | 0, _, _, _, _, _ => False
  | n + 1, v0, v1, M, bc, bs => zgA Z M v1 [9] 1 fun x9 => zty Z M v0 fun t => t = 3 ∧ zcx bc bs (fun c s k x => r_X6_single v0 M c s k x) (fun r10 M11 bc12 bs13 => zrA r10 fun x14 => zty Z M11 x9 fun t => t = 18 ∧ zcc bc12 bs13 (fun c s k => wp_J2_add Z x9 x14 M11 c s k) fun r15 M16 bc17 bs18 => zrI r15 fun x19 => zty Z M16 v0 fun t => t = 3 ∧ wp_X6_takeIf Z v0 (some (zz_ad Z 110)) M16 (fun r20 M21 => zrI r20 fun x24 => if x24 = 0 then (K (some (va_rf v1)) M21) else (wp_X6_both_L9 Z r_X6_both r_X6_single r_X6_test K X n v0 v1 M21 bc17 bs18))) (fun t q M _ _ => X t q M)
def wpb_X6_both (Z : zzG) (r_X6_both : Option Nat → zzM → Nat → Nat → (Option Value → zzM → Prop) → (Nat → Nat → zzM → Prop) → Prop) (r_X6_single : Option Nat → zzM → Nat → Nat → (Option Value → zzM → Prop) → (Nat → Nat → zzM → Prop) → Prop) (r_X6_test : Option Nat → zzM → Nat → Nat → (Option Value → zzM → Prop) → (Nat → Nat → zzM → Prop) → Prop) (this : Option Nat) (M : zzM) (bc bs : Nat) (K : Option Value → zzM → Prop) (X : Nat → Nat → zzM → Prop) : Prop := znew Z M bc bs 9 2 [.int 0, .null] fun q1 M2 bc3 bs4 => zcc bc3 bs4 (fun c s k => wp_X14_init Z (some q1) (1 : Int32) M2 c s k) fun r5 M6 bc7 bs8 => zrV r5 (∃ n9 : Nat, wp_X6_both_L9 Z r_X6_both r_X6_single r_X6_test K X n9 this (some q1) M6 bc7 bs8)
def wp_X6_single_B129 (Z : zzG) (r_X6_both : Option Nat → zzM → Nat → Nat → (Option Value → zzM → Prop) → (Nat → Nat → zzM → Prop) → Prop) (r_X6_single : Option Nat → zzM → Nat → Nat → (Option Value → zzM → Prop) → (Nat → Nat → zzM → Prop) → Prop) (r_X6_test : Option Nat → zzM → Nat → Nat → (Option Value → zzM → Prop) → (Nat → Nat → zzM → Prop) → Prop) (K : Option Value → zzM → Prop) (X : Nat → Nat → zzM → Prop) (v0 : Option Nat) (v1 : Option Nat) (M : zzM) (bc bs : Nat) : Prop := zgI Z M v0 [3] 1 fun x106 => zput Z M v0 [3] 1 (.int (x106 + (1 : Int32))) fun M107 => znew Z M107 bc bs 11 2 [.null, .null] fun q108 M109 bc110 bs111 => zgA Z M109 v1 [5] 1 fun x112 => zty Z M109 v0 fun t => t = 3 ∧ zcx bc110 bs111 (fun c s k x => wp_X6_take Z v0 (some (zz_ad Z 1)) M109 c s k x) (fun r113 M114 bc115 bs116 => zrA r113 fun x117 => wp_X16_init Z (some q108) x112 x117 M114 (fun r118 M119 => zrV r118 (K (some (va_rf (some q108))) M119))) (fun t q M _ _ => X t q M)
def wpb_X6_single (Z : zzG) (r_X6_both : Option Nat → zzM → Nat → Nat → (Option Value → zzM → Prop) → (Nat → Nat → zzM → Prop) → Prop) (r_X6_single : Option Nat → zzM → Nat → Nat → (Option Value → zzM → Prop) → (Nat → Nat → zzM → Prop) → Prop) (r_X6_test : Option Nat → zzM → Nat → Nat → (Option Value → zzM → Prop) → (Nat → Nat → zzM → Prop) → Prop) (this : Option Nat) (M : zzM) (bc bs : Nat) (K : Option Value → zzM → Prop) (X : Nat → Nat → zzM → Prop) : Prop := zty Z M this fun t => t = 3 ∧ wp_X6_now Z this M (fun r1 M2 => zrA r1 fun x5 => zty Z M2 x5 fun t => t = 5 ∧ wp_X8_is Z x5 (some (zz_ad Z 146)) M2 (fun r6 M7 => zrI r6 fun x10 => if x10 = 0 then (zty Z M7 this fun t => t = 3 ∧ wp_X6_now Z this M7 (fun r11 M12 => zrA r11 fun x15 => zty Z M12 x15 fun t => t = 5 ∧ wp_X8_is Z x15 (some (zz_ad Z 107)) M12 (fun r16 M17 => zrI r16 fun x20 => if x20 = 0 then (zty Z M17 this fun t => t = 3 ∧ wp_X6_now Z this M17 (fun r21 M22 => zrA r21 fun x25 => zty Z M22 x25 fun t => t = 5 ∧ wp_X8_is Z x25 (some (zz_ad Z 143)) M22 (fun r26 M27 => zrI r26 fun x30 => if x30 = 0 then (zty Z M27 x25 fun t => t = 5 ∧ wp_X8_is Z x25 (some (zz_ad Z 160)) M27 (fun r31 M32 => zrI r31 fun x35 => if x35 = 0 then (zty Z M32 x25 fun t => t = 5 ∧ wp_X8_is Z x25 (some (zz_ad Z 153)) M32 (fun r36 M37 => zrI r36 fun x40 => if x40 = 0 then (zty Z M37 x25 fun t => t = 5 ∧ wp_X8_is Z x25 (some (zz_ad Z 126)) M37 (fun r41 M42 => zrI r41 fun x45 => if x45 = 0 then (zty Z M42 this fun t => t = 3 ∧ zcc bc bs (fun c s k => wp_X6_wrong Z this M42 c s k) fun r46 M47 bc48 bs49 => zrA r46 fun x50 => zthr Z M47 x50 [6] fun _ q51 => X 6 q51 M47) else (wp_X6_single_B129 Z r_X6_both r_X6_single r_X6_test K X this x25 M42 bc bs))) else (wp_X6_single_B129 Z r_X6_both r_X6_single r_X6_test K X this x25 M37 bc bs))) else (wp_X6_single_B129 Z r_X6_both r_X6_single r_X6_test K X this x25 M32 bc bs))) else (wp_X6_single_B129 Z r_X6_both r_X6_single r_X6_test K X this x25 M27 bc bs)))) else (zty Z M17 this fun t => t = 3 ∧ zcx bc bs (fun c s k x => wp_X6_deeper Z this (some (zz_ad Z 107)) M17 c s k x) (fun r52 M53 bc54 bs55 => zrV r52 (zty Z M53 this fun t => t = 3 ∧ zcx bc54 bs55 (fun c s k x => r_X6_test this M53 c s k x) (fun r56 M57 bc58 bs59 => zrA r56 fun x60 => zty Z M57 this fun t => t = 3 ∧ zcx bc58 bs59 (fun c s k x => wp_X6_take_2 Z this (some (zz_ad Z 109)) M57 c s k x) (fun r61 M62 bc63 bs64 => zrV r61 (zgI Z M62 this [3] 2 fun x65 => zput Z M62 this [3] 2 (.int (x65 - (1 : Int32))) fun M66 => K (some (va_rf x60)) M66)) (fun t q M _ _ => X t q M)) (fun t q M _ _ => X t q M))) (fun t q M _ _ => X t q M))))) else (zty Z M7 this fun t => t = 3 ∧ zcx bc bs (fun c s k x => wp_X6_deeper Z this (some (zz_ad Z 146)) M7 c s k x) (fun r79 M80 bc81 bs82 => zrV r79 (znew Z M80 bc81 bs82 10 1 [.null] fun q83 M84 bc85 bs86 => zty Z M84 this fun t => t = 3 ∧ zcx bc85 bs86 (fun c s k x => r_X6_single this M84 c s k x) (fun r87 M88 bc89 bs90 => zrA r87 fun x91 => wp_X15_init Z (some q83) x91 M88 (fun r92 M93 => zrV r92 (zgI Z M93 this [3] 2 fun x96 => zput Z M93 this [3] 2 (.int (x96 - (1 : Int32))) fun M97 => K (some (va_rf (some q83))) M97))) (fun t q M _ _ => X t q M))) (fun t q M _ _ => X t q M))))
def wp_X6_test_L9 (Z : zzG) (r_X6_both : Option Nat → zzM → Nat → Nat → (Option Value → zzM → Prop) → (Nat → Nat → zzM → Prop) → Prop) (r_X6_single : Option Nat → zzM → Nat → Nat → (Option Value → zzM → Prop) → (Nat → Nat → zzM → Prop) → Prop) (r_X6_test : Option Nat → zzM → Nat → Nat → (Option Value → zzM → Prop) → (Nat → Nat → zzM → Prop) → Prop) (K : Option Value → zzM → Prop) (X : Nat → Nat → zzM → Prop) : Nat → Option Nat → Option Nat → zzM → Nat → Nat → Prop
  | 0, _, _, _, _, _ => False
  | n + 1, v0, v1, M, bc, bs => zgA Z M v1 [9] 1 fun x9 => zty Z M v0 fun t => t = 3 ∧ zcx bc bs (fun c s k x => r_X6_both v0 M c s k x) (fun r10 M11 bc12 bs13 => zrA r10 fun x14 => zty Z M11 x9 fun t => t = 18 ∧ zcc bc12 bs13 (fun c s k => wp_J2_add Z x9 x14 M11 c s k) fun r15 M16 bc17 bs18 => zrI r15 fun x19 => zty Z M16 v0 fun t => t = 3 ∧ wp_X6_takeIf Z v0 (some (zz_ad Z 156)) M16 (fun r20 M21 => zrI r20 fun x24 => if x24 = 0 then (K (some (va_rf v1)) M21) else (wp_X6_test_L9 Z r_X6_both r_X6_single r_X6_test K X n v0 v1 M21 bc17 bs18))) (fun t q M _ _ => X t q M)
def wpb_X6_test (Z : zzG) (r_X6_both : Option Nat → zzM → Nat → Nat → (Option Value → zzM → Prop) → (Nat → Nat → zzM → Prop) → Prop) (r_X6_single : Option Nat → zzM → Nat → Nat → (Option Value → zzM → Prop) → (Nat → Nat → zzM → Prop) → Prop) (r_X6_test : Option Nat → zzM → Nat → Nat → (Option Value → zzM → Prop) → (Nat → Nat → zzM → Prop) → Prop) (this : Option Nat) (M : zzM) (bc bs : Nat) (K : Option Value → zzM → Prop) (X : Nat → Nat → zzM → Prop) : Prop := znew Z M bc bs 9 2 [.int 0, .null] fun q1 M2 bc3 bs4 => zcc bc3 bs4 (fun c s k => wp_X14_init Z (some q1) (0 : Int32) M2 c s k) fun r5 M6 bc7 bs8 => zrV r5 (∃ n9 : Nat, wp_X6_test_L9 Z r_X6_both r_X6_single r_X6_test K X n9 this (some q1) M6 bc7 bs8)
theorem ok_X6_both_L9 {G : zzX} (C : zz_C G cX6_both "DebateHall$Reader" 2) {K : Option Value → zzM → Prop} {X : Nat → Nat → zzM → Prop} (E : zz_E G (some (.object "DebateHall$Test")) K X) (hH : zz_H G []) {fr frr : Nat} (hR : zz_Rm G fr) (hF : 9 ≤ fr) (hfrr : frr + 1 ≤ fr) {r_X6_both : Option Nat → zzM → Nat → Nat → (Option Value → zzM → Prop) → (Nat → Nat → zzM → Prop) → Prop} (h_X6_both : ∀ {u0 : Option Nat}{M : zzM} {mc ms : Nat} {K : Option Value → zzM → Prop} {X : Nat → Nat → zzM → Prop}, r_X6_both u0 M mc ms K X → zz_Met (zz_Zof G) (zz_l G) yX6_both (zz_ws yX6_both cX6_both 2 (some (.object "DebateHall$Test")) none) frr [va_rf u0] M mc ms K X) {r_X6_single : Option Nat → zzM → Nat → Nat → (Option Value → zzM → Prop) → (Nat → Nat → zzM → Prop) → Prop} (h_X6_single : ∀ {u0 : Option Nat}{M : zzM} {mc ms : Nat} {K : Option Value → zzM → Prop} {X : Nat → Nat → zzM → Prop}, r_X6_single u0 M mc ms K X → zz_Met (zz_Zof G) (zz_l G) yX6_single (zz_ws yX6_single cX6_single 2 (some (.object "DebateHall$Test")) none) frr [va_rf u0] M mc ms K X) {r_X6_test : Option Nat → zzM → Nat → Nat → (Option Value → zzM → Prop) → (Nat → Nat → zzM → Prop) → Prop} (h_X6_test : ∀ {u0 : Option Nat}{M : zzM} {mc ms : Nat} {K : Option Value → zzM → Prop} {X : Nat → Nat → zzM → Prop}, r_X6_test u0 M mc ms K X → zz_Met (zz_Zof G) (zz_l G) yX6_test (zz_ws yX6_test cX6_test 2 (some (.object "DebateHall$Test")) none) frr [va_rf u0] M mc ms K X) : ∀ (n : Nat) (v0 : Option Nat) (v1 : Option Nat) (M : zzM) (bc bs : Nat), wp_X6_both_L9 (zz_Zof G) r_X6_both r_X6_single r_X6_test K X n v0 v1 M bc bs → zz_T G 2 M bc bs 9 [(0, va_rf v0), (1, va_rf v1)] [] := by
  intro n
  induction n with
  | zero =>
    intro v0 v1 M bc bs hw
    exact False.elim hw
  | succ n ih =>
    intro v0 v1 M bc bs hw
    refine zz_aload_n C dX6_both_9 rfl 1 rfl ?_
    refine zz_getA C dX6_both_10 (Or.inr ⟨_, q1019⟩) zf_9_1_teHall_Several hw (fun x9 hw => ?_)
    refine zz_aload_n C dX6_both_13 rfl 0 rfl ?_
    obtain ⟨a9, t9, b9, fs9, hro, hL, rfl, hw⟩ := ztyS hw
    obtain ⟨c9, s9, hc9, hs9, hw⟩ := hw
    refine zz_callV (r := (zR_3, zT_3, 3)) (As := []) (rest := [va_rf x9]) C hR hro dX6_both_14 (Or.inl q1029) q1031 (Or.inl qs15) zl_DebateHall_Reader zk_X6_single (Or.inl rfl) zy_X6_single rfl hfrr (by decide) hL (h_X6_single hw) hc9 hs9 (zz_cat10 _ (Nat.le_of_ble_eq_true rfl)) (fun r10 M11 hw => zz_kA hw (fun x14 hw => ?_)) (fun t9 q25 M26 hx => ?_) rfl
    · obtain ⟨a9, t9, b9, fs9, hro, hL, rfl, hw⟩ := ztyS hw
      obtain ⟨c9, s9, hc9, hs9, hw⟩ := hw
      refine zz_callV (r := (zR_18, zT_18, 3)) (As := [va_rf x14]) (rest := []) C hR hro dX6_both_17 (Or.inl q1067) q776 (Or.inl q777) zl_java_util_ArrayList zk_J2_add (Or.inl rfl) zy_J2_add rfl (Nat.le_trans (by decide : 8 ≤ 9) hF) (by decide) hL (ok_J2_add (zz_hl C) hw) hc9 hs9 (zz_cat10 _ (Nat.le_of_ble_eq_true rfl)) (fun r15 M16 hw => zz_kI hw (fun x19 hw => ?_)) (fun _ _ _ h9 => h9.elim) rfl
      refine zz_pop C dX6_both_20 rfl ?_
      refine zz_aload_n C dX6_both_21 rfl 0 rfl ?_
      refine zz_ldcS (j := 10) C dX6_both_22 rfl ?_
      obtain ⟨a9, t9, b9, fs9, hro, hL, rfl, hw⟩ := ztyS hw
      refine zz_callV (r := (zR_3, zT_3, 3)) (As := [va_rf (some (zz_ad (zz_Zof G) 110))]) (rest := []) (mc := 0) (ms := 0) C hR hro dX6_both_24 (Or.inl q895) q897 (Or.inl qs7) zl_DebateHall_Reader zk_X6_takeIf (Or.inl rfl) zy_X6_takeIf rfl (Nat.le_trans (by decide : 6 ≤ 9) hF) (by decide) hL (ok_X6_takeIf (zz_hl C) hw) (Nat.zero_le _) (Nat.zero_le _) (zz_cat10 _ (Nat.le_of_ble_eq_true rfl)) (fun r20 M21 hw => zz_kI hw (fun x24 hw => ?_)) (fun _ _ _ h9 => h9.elim) rfl
      refine zz_if_ne (tgt := 9) C dX6_both_27 (by decide) hw (fun hw => ?_) (fun hw => ?_)
      · refine zz_subP [0, 1] rfl ?_
        exact ih _ _ _ _ _ hw
      · refine zz_aload_n C dX6_both_30 rfl 1 rfl ?_
        exact zz_aret C E (Or.inl ⟨_, rfl⟩) dX6_both_31 hw
    · exact zz_out C E hH rfl hx
theorem okb_X6_both {Z : zzG} {l : Launch} (hl : l.stackTraces = false) {fr frr : Nat} (hF : 9 ≤ fr) (hfrr : frr + 1 ≤ fr) {r_X6_both : Option Nat → zzM → Nat → Nat → (Option Value → zzM → Prop) → (Nat → Nat → zzM → Prop) → Prop} (h_X6_both : ∀ {u0 : Option Nat}{M : zzM} {mc ms : Nat} {K : Option Value → zzM → Prop} {X : Nat → Nat → zzM → Prop}, r_X6_both u0 M mc ms K X → zz_Met Z l yX6_both (zz_ws yX6_both cX6_both 2 (some (.object "DebateHall$Test")) none) frr [va_rf u0] M mc ms K X) {r_X6_single : Option Nat → zzM → Nat → Nat → (Option Value → zzM → Prop) → (Nat → Nat → zzM → Prop) → Prop} (h_X6_single : ∀ {u0 : Option Nat}{M : zzM} {mc ms : Nat} {K : Option Value → zzM → Prop} {X : Nat → Nat → zzM → Prop}, r_X6_single u0 M mc ms K X → zz_Met Z l yX6_single (zz_ws yX6_single cX6_single 2 (some (.object "DebateHall$Test")) none) frr [va_rf u0] M mc ms K X) {r_X6_test : Option Nat → zzM → Nat → Nat → (Option Value → zzM → Prop) → (Nat → Nat → zzM → Prop) → Prop} (h_X6_test : ∀ {u0 : Option Nat}{M : zzM} {mc ms : Nat} {K : Option Value → zzM → Prop} {X : Nat → Nat → zzM → Prop}, r_X6_test u0 M mc ms K X → zz_Met Z l yX6_test (zz_ws yX6_test cX6_test 2 (some (.object "DebateHall$Test")) none) frr [va_rf u0] M mc ms K X) {this : Option Nat} {M : zzM} {mc ms : Nat} {K : Option Value → zzM → Prop} {X : Nat → Nat → zzM → Prop} (hw : wpb_X6_both Z r_X6_both r_X6_single r_X6_test this M mc ms K X) : zz_Met Z l yX6_both (zz_ws yX6_both cX6_both 2 (some (.object "DebateHall$Test")) none) fr [va_rf this] M mc ms K X := by
  refine zz_ofW hl (plainFor_of_name (by decide)) (by simp only [zz_sl0, zz_slI, zz_slJ, zz_slA] <;> decide) (fun G hZ hll C E hH hR hin => ?_)
  subst hZ
  subst hll
  rw [show lv_args 0 [va_rf this] = [(0, va_rf this)] by simp only [zz_la0, zz_laI, zz_laJ, zz_laA]]
  unfold wpb_X6_both at hw
  refine zz_new (r := (zR_9, zT_9, 2)) C dX6_both_0 rfl (by decide) q1006 q1007 zl_DebateHall_Several rfl hw (fun q1 M2 bc3 bs4 hw => ?_)
  refine zz_dup C dX6_both_3 (zz_cat _) ?_
  refine zz_iconst (v := (1 : Int32)) C dX6_both_4 (by decide) ?_
  obtain ⟨c9, s9, hc9, hs9, hw⟩ := hw
  refine zz_callI (As := [.int (1 : Int32)]) (rest := [va_rf (some q1)]) C hR rfl dX6_both_5 (Or.inl q1008) q1009 zl_DebateHall_Several zk_X14_init rfl zy_X14_init (Nat.le_trans (by decide : 6 ≤ 9) hF) (by decide) (ok_X14_init (zz_hl C) hw) hc9 hs9 (zz_cat10 _ (Nat.le_of_ble_eq_true rfl)) (fun r5 M6 hw => zz_kV hw (fun hw => ?_)) (fun _ _ _ h9 => h9.elim) rfl
  refine zz_astore_n (i := 1) (lv' := [(1, va_rf (some q1)), (0, va_rf this)]) C dX6_both_8 rfl (by decide) (by simp [zz_cat, zz_catI, zz_catJ, zz_catD]) ?_
  refine zz_subP [1, 0] rfl ?_
  obtain ⟨n9, hw⟩ := hw
  exact ok_X6_both_L9 C E hH hR hF hfrr h_X6_both h_X6_single h_X6_test n9 _ _ _ _ _ hw
theorem ok_X6_single_B129 {G : zzX} (C : zz_C G cX6_single "DebateHall$Reader" 2) {K : Option Value → zzM → Prop} {X : Nat → Nat → zzM → Prop} (E : zz_E G (some (.object "DebateHall$Test")) K X) (hH : zz_H G []) {fr frr : Nat} (hR : zz_Rm G fr) (hF : 9 ≤ fr) (hfrr : frr + 1 ≤ fr) {r_X6_both : Option Nat → zzM → Nat → Nat → (Option Value → zzM → Prop) → (Nat → Nat → zzM → Prop) → Prop} (h_X6_both : ∀ {u0 : Option Nat}{M : zzM} {mc ms : Nat} {K : Option Value → zzM → Prop} {X : Nat → Nat → zzM → Prop}, r_X6_both u0 M mc ms K X → zz_Met (zz_Zof G) (zz_l G) yX6_both (zz_ws yX6_both cX6_both 2 (some (.object "DebateHall$Test")) none) frr [va_rf u0] M mc ms K X) {r_X6_single : Option Nat → zzM → Nat → Nat → (Option Value → zzM → Prop) → (Nat → Nat → zzM → Prop) → Prop} (h_X6_single : ∀ {u0 : Option Nat}{M : zzM} {mc ms : Nat} {K : Option Value → zzM → Prop} {X : Nat → Nat → zzM → Prop}, r_X6_single u0 M mc ms K X → zz_Met (zz_Zof G) (zz_l G) yX6_single (zz_ws yX6_single cX6_single 2 (some (.object "DebateHall$Test")) none) frr [va_rf u0] M mc ms K X) {r_X6_test : Option Nat → zzM → Nat → Nat → (Option Value → zzM → Prop) → (Nat → Nat → zzM → Prop) → Prop} (h_X6_test : ∀ {u0 : Option Nat}{M : zzM} {mc ms : Nat} {K : Option Value → zzM → Prop} {X : Nat → Nat → zzM → Prop}, r_X6_test u0 M mc ms K X → zz_Met (zz_Zof G) (zz_l G) yX6_test (zz_ws yX6_test cX6_test 2 (some (.object "DebateHall$Test")) none) frr [va_rf u0] M mc ms K X) {v0 : Option Nat} {v1 : Option Nat} {M : zzM} {bc bs : Nat} (hw : wp_X6_single_B129 (zz_Zof G) r_X6_both r_X6_single r_X6_test K X v0 v1 M bc bs) : zz_T G 2 M bc bs 129 [(0, va_rf v0), (1, va_rf v1)] [] := by
  unfold wp_X6_single_B129 at hw
  refine zz_aload_n C dX6_single_129 rfl 0 rfl ?_
  refine zz_dup C dX6_single_130 (zz_cat _) ?_
  refine zz_getI C dX6_single_131 (Or.inl q851) zf_3_1_ateHall_Reader hw (fun x106 hw => ?_)
  refine zz_iconst (v := (1 : Int32)) C dX6_single_134 (by decide) ?_
  refine zz_iadd C dX6_single_135 ?_
  refine zz_put C dX6_single_136 (Or.inl q851) zf_3_1_ateHall_Reader zp_3_1 (zz_hn1 ⟨rfl, rfl⟩) hw (fun M107 hw => ?_)
  refine zz_new (r := (zR_11, zT_11, 2)) C dX6_single_139 rfl (by decide) q1054 q1055 zl_DebateHall_Asked rfl hw (fun q108 M109 bc110 bs111 hw => ?_)
  refine zz_dup C dX6_single_142 (zz_cat _) ?_
  refine zz_aload_n C dX6_single_143 rfl 1 rfl ?_
  refine zz_getA C dX6_single_144 (Or.inr ⟨_, q376⟩) zf_5_1_bateHall_Token hw (fun x112 hw => ?_)
  refine zz_aload_n C dX6_single_147 rfl 0 rfl ?_
  refine zz_gets (j := 1) (v := va_rf (some (zz_ad (zz_Zof G) 1))) C dX6_single_148 (Or.inl q906) rfl (Or.inl rfl) rfl ?_
  obtain ⟨a9, t9, b9, fs9, hro, hL, rfl, hw⟩ := ztyS hw
  obtain ⟨c9, s9, hc9, hs9, hw⟩ := hw
  refine zz_callV (r := (zR_3, zT_3, 3)) (As := [va_rf (some (zz_ad (zz_Zof G) 1))]) (rest := [va_rf x112, va_rf (some q108), va_rf (some q108)]) C hR hro dX6_single_151 (Or.inl q907) q909 (Or.inl qs8) zl_DebateHall_Reader zk_X6_take (Or.inl rfl) zy_X6_take rfl (Nat.le_trans (by decide : 9 ≤ 9) hF) (by decide) hL (ok_X6_take (zz_hl C) hw) hc9 hs9 (zz_cat10 _ (Nat.le_of_ble_eq_true rfl)) (fun r113 M114 hw => zz_kA hw (fun x117 hw => ?_)) (fun t9 q122 M123 hx => ?_) rfl
  · refine zz_callI (As := [va_rf x112, va_rf x117]) (rest := [va_rf (some q108)]) (mc := 0) (ms := 0) C hR rfl dX6_single_154 (Or.inl q1056) q1057 zl_DebateHall_Asked zk_X16_init rfl zy_X16_init (Nat.le_trans (by decide : 4 ≤ 9) hF) (by decide) (ok_X16_init (zz_hl C) hw) (Nat.zero_le _) (Nat.zero_le _) (zz_cat10 _ (Nat.le_of_ble_eq_true rfl)) (fun r118 M119 hw => zz_kV hw (fun hw => ?_)) (fun _ _ _ h9 => h9.elim) rfl
    exact zz_aret C E (Or.inl ⟨_, rfl⟩) dX6_single_157 hw
  · exact zz_out C E hH rfl hx
theorem okb_X6_single {Z : zzG} {l : Launch} (hl : l.stackTraces = false) {fr frr : Nat} (hF : 9 ≤ fr) (hfrr : frr + 1 ≤ fr) {r_X6_both : Option Nat → zzM → Nat → Nat → (Option Value → zzM → Prop) → (Nat → Nat → zzM → Prop) → Prop} (h_X6_both : ∀ {u0 : Option Nat}{M : zzM} {mc ms : Nat} {K : Option Value → zzM → Prop} {X : Nat → Nat → zzM → Prop}, r_X6_both u0 M mc ms K X → zz_Met Z l yX6_both (zz_ws yX6_both cX6_both 2 (some (.object "DebateHall$Test")) none) frr [va_rf u0] M mc ms K X) {r_X6_single : Option Nat → zzM → Nat → Nat → (Option Value → zzM → Prop) → (Nat → Nat → zzM → Prop) → Prop} (h_X6_single : ∀ {u0 : Option Nat}{M : zzM} {mc ms : Nat} {K : Option Value → zzM → Prop} {X : Nat → Nat → zzM → Prop}, r_X6_single u0 M mc ms K X → zz_Met Z l yX6_single (zz_ws yX6_single cX6_single 2 (some (.object "DebateHall$Test")) none) frr [va_rf u0] M mc ms K X) {r_X6_test : Option Nat → zzM → Nat → Nat → (Option Value → zzM → Prop) → (Nat → Nat → zzM → Prop) → Prop} (h_X6_test : ∀ {u0 : Option Nat}{M : zzM} {mc ms : Nat} {K : Option Value → zzM → Prop} {X : Nat → Nat → zzM → Prop}, r_X6_test u0 M mc ms K X → zz_Met Z l yX6_test (zz_ws yX6_test cX6_test 2 (some (.object "DebateHall$Test")) none) frr [va_rf u0] M mc ms K X) {this : Option Nat} {M : zzM} {mc ms : Nat} {K : Option Value → zzM → Prop} {X : Nat → Nat → zzM → Prop} (hw : wpb_X6_single Z r_X6_both r_X6_single r_X6_test this M mc ms K X) : zz_Met Z l yX6_single (zz_ws yX6_single cX6_single 2 (some (.object "DebateHall$Test")) none) fr [va_rf this] M mc ms K X := by
  refine zz_ofW hl (plainFor_of_name (by decide)) (by simp only [zz_sl0, zz_slI, zz_slJ, zz_slA] <;> decide) (fun G hZ hll C E hH hR hin => ?_)
  subst hZ
  subst hll
  rw [show lv_args 0 [va_rf this] = [(0, va_rf this)] by simp only [zz_la0, zz_laI, zz_laJ, zz_laA]]
  unfold wpb_X6_single at hw
  refine zz_aload_n C dX6_single_0 rfl 0 rfl ?_
  obtain ⟨a9, t9, b9, fs9, hro, hL, rfl, hw⟩ := ztyS hw
  refine zz_callV (r := (zR_3, zT_3, 3)) (As := []) (rest := []) (mc := 0) (ms := 0) C hR hro dX6_single_1 (Or.inl q866) q868 (Or.inl qs5) zl_DebateHall_Reader zk_X6_now (Or.inl rfl) zy_X6_now rfl (Nat.le_trans (by decide : 5 ≤ 9) hF) (by decide) hL (ok_X6_now (zz_hl C) hw) (Nat.zero_le _) (Nat.zero_le _) (zz_cat10 _ (Nat.le_of_ble_eq_true rfl)) (fun r1 M2 hw => zz_kA hw (fun x5 hw => ?_)) (fun _ _ _ h9 => h9.elim) rfl
  refine zz_ldcS (j := 46) C dX6_single_4 rfl ?_
  obtain ⟨a9, t9, b9, fs9, hro, hL, rfl, hw⟩ := ztyS hw
  refine zz_callV (r := (zR_5, zT_5, 3)) (As := [va_rf (some (zz_ad (zz_Zof G) 146))]) (rest := []) (mc := 0) (ms := 0) C hR hro dX6_single_6 (Or.inl q899) q900 (Or.inl q901) zl_DebateHall_Token zk_X8_is (Or.inl rfl) zy_X8_is rfl (Nat.le_trans (by decide : 4 ≤ 9) hF) (by decide) hL (ok_X8_is (zz_hl C) hw) (Nat.zero_le _) (Nat.zero_le _) (zz_cat10 _ (Nat.le_of_ble_eq_true rfl)) (fun r6 M7 hw => zz_kI hw (fun x10 hw => ?_)) (fun _ _ _ h9 => h9.elim) rfl
  refine zz_if_eq (tgt := 42) C dX6_single_9 (by decide) hw (fun hw => ?_) (fun hw => ?_)
  · refine zz_aload_n C dX6_single_42 rfl 0 rfl ?_
    obtain ⟨a9, t9, b9, fs9, hro, hL, rfl, hw⟩ := ztyS hw
    refine zz_callV (r := (zR_3, zT_3, 3)) (As := []) (rest := []) (mc := 0) (ms := 0) C hR hro dX6_single_43 (Or.inl q866) q868 (Or.inl qs5) zl_DebateHall_Reader zk_X6_now (Or.inl rfl) zy_X6_now rfl (Nat.le_trans (by decide : 5 ≤ 9) hF) (by decide) hL (ok_X6_now (zz_hl C) hw) (Nat.zero_le _) (Nat.zero_le _) (zz_cat10 _ (Nat.le_of_ble_eq_true rfl)) (fun r11 M12 hw => zz_kA hw (fun x15 hw => ?_)) (fun _ _ _ h9 => h9.elim) rfl
    refine zz_ldcS (j := 7) C dX6_single_46 rfl ?_
    obtain ⟨a9, t9, b9, fs9, hro, hL, rfl, hw⟩ := ztyS hw
    refine zz_callV (r := (zR_5, zT_5, 3)) (As := [va_rf (some (zz_ad (zz_Zof G) 107))]) (rest := []) (mc := 0) (ms := 0) C hR hro dX6_single_48 (Or.inl q899) q900 (Or.inl q901) zl_DebateHall_Token zk_X8_is (Or.inl rfl) zy_X8_is rfl (Nat.le_trans (by decide : 4 ≤ 9) hF) (by decide) hL (ok_X8_is (zz_hl C) hw) (Nat.zero_le _) (Nat.zero_le _) (zz_cat10 _ (Nat.le_of_ble_eq_true rfl)) (fun r16 M17 hw => zz_kI hw (fun x20 hw => ?_)) (fun _ _ _ h9 => h9.elim) rfl
    refine zz_if_eq (tgt := 83) C dX6_single_51 (by decide) hw (fun hw => ?_) (fun hw => ?_)
    · refine zz_aload_n C dX6_single_83 rfl 0 rfl ?_
      obtain ⟨a9, t9, b9, fs9, hro, hL, rfl, hw⟩ := ztyS hw
      refine zz_callV (r := (zR_3, zT_3, 3)) (As := []) (rest := []) (mc := 0) (ms := 0) C hR hro dX6_single_84 (Or.inl q866) q868 (Or.inl qs5) zl_DebateHall_Reader zk_X6_now (Or.inl rfl) zy_X6_now rfl (Nat.le_trans (by decide : 5 ≤ 9) hF) (by decide) hL (ok_X6_now (zz_hl C) hw) (Nat.zero_le _) (Nat.zero_le _) (zz_cat10 _ (Nat.le_of_ble_eq_true rfl)) (fun r21 M22 hw => zz_kA hw (fun x25 hw => ?_)) (fun _ _ _ h9 => h9.elim) rfl
      refine zz_astore_n (i := 1) (lv' := [(1, va_rf x25), (0, va_rf this)]) C dX6_single_87 rfl (by decide) (by simp [zz_cat, zz_catI, zz_catJ, zz_catD]) ?_
      refine zz_aload_n C dX6_single_88 rfl 0 rfl ?_
      refine zz_ldcS (j := 43) C dX6_single_89 rfl ?_
      obtain ⟨a9, t9, b9, fs9, hro, hL, rfl, hw⟩ := ztyS hw
      refine zz_callV (r := (zR_5, zT_5, 3)) (As := [va_rf (some (zz_ad (zz_Zof G) 143))]) (rest := []) (mc := 0) (ms := 0) C hR hro dX6_single_91 (Or.inl q899) q900 (Or.inl q901) zl_DebateHall_Token zk_X8_is (Or.inl rfl) zy_X8_is rfl (Nat.le_trans (by decide : 4 ≤ 9) hF) (by decide) hL (ok_X8_is (zz_hl C) hw) (Nat.zero_le _) (Nat.zero_le _) (zz_cat10 _ (Nat.le_of_ble_eq_true rfl)) (fun r26 M27 hw => zz_kI hw (fun x30 hw => ?_)) (fun _ _ _ h9 => h9.elim) rfl
      refine zz_if_ne (tgt := 129) C dX6_single_94 (by decide) hw (fun hw => ?_) (fun hw => ?_)
      · refine zz_subP [1, 0] rfl ?_
        exact ok_X6_single_B129 C E hH hR hF hfrr h_X6_both h_X6_single h_X6_test hw
      · refine zz_aload_n C dX6_single_97 rfl 0 rfl ?_
        refine zz_ldcS (j := 60) C dX6_single_98 rfl ?_
        obtain ⟨a9, t9, b9, fs9, hro, hL, rfl, hw⟩ := ztyS hw
        refine zz_callV (r := (zR_5, zT_5, 3)) (As := [va_rf (some (zz_ad (zz_Zof G) 160))]) (rest := []) (mc := 0) (ms := 0) C hR hro dX6_single_100 (Or.inl q899) q900 (Or.inl q901) zl_DebateHall_Token zk_X8_is (Or.inl rfl) zy_X8_is rfl (Nat.le_trans (by decide : 4 ≤ 9) hF) (by decide) hL (ok_X8_is (zz_hl C) hw) (Nat.zero_le _) (Nat.zero_le _) (zz_cat10 _ (Nat.le_of_ble_eq_true rfl)) (fun r31 M32 hw => zz_kI hw (fun x35 hw => ?_)) (fun _ _ _ h9 => h9.elim) rfl
        refine zz_if_ne (tgt := 129) C dX6_single_103 (by decide) hw (fun hw => ?_) (fun hw => ?_)
        · refine zz_subP [1, 0] rfl ?_
          exact ok_X6_single_B129 C E hH hR hF hfrr h_X6_both h_X6_single h_X6_test hw
        · refine zz_aload_n C dX6_single_106 rfl 0 rfl ?_
          refine zz_ldcS (j := 53) C dX6_single_107 rfl ?_
          obtain ⟨a9, t9, b9, fs9, hro, hL, rfl, hw⟩ := ztyS hw
          refine zz_callV (r := (zR_5, zT_5, 3)) (As := [va_rf (some (zz_ad (zz_Zof G) 153))]) (rest := []) (mc := 0) (ms := 0) C hR hro dX6_single_109 (Or.inl q899) q900 (Or.inl q901) zl_DebateHall_Token zk_X8_is (Or.inl rfl) zy_X8_is rfl (Nat.le_trans (by decide : 4 ≤ 9) hF) (by decide) hL (ok_X8_is (zz_hl C) hw) (Nat.zero_le _) (Nat.zero_le _) (zz_cat10 _ (Nat.le_of_ble_eq_true rfl)) (fun r36 M37 hw => zz_kI hw (fun x40 hw => ?_)) (fun _ _ _ h9 => h9.elim) rfl
          refine zz_if_ne (tgt := 129) C dX6_single_112 (by decide) hw (fun hw => ?_) (fun hw => ?_)
          · refine zz_subP [1, 0] rfl ?_
            exact ok_X6_single_B129 C E hH hR hF hfrr h_X6_both h_X6_single h_X6_test hw
          · refine zz_aload_n C dX6_single_115 rfl 0 rfl ?_
            refine zz_ldcS (j := 26) C dX6_single_116 rfl ?_
            obtain ⟨a9, t9, b9, fs9, hro, hL, rfl, hw⟩ := ztyS hw
            refine zz_callV (r := (zR_5, zT_5, 3)) (As := [va_rf (some (zz_ad (zz_Zof G) 126))]) (rest := []) (mc := 0) (ms := 0) C hR hro dX6_single_118 (Or.inl q899) q900 (Or.inl q901) zl_DebateHall_Token zk_X8_is (Or.inl rfl) zy_X8_is rfl (Nat.le_trans (by decide : 4 ≤ 9) hF) (by decide) hL (ok_X8_is (zz_hl C) hw) (Nat.zero_le _) (Nat.zero_le _) (zz_cat10 _ (Nat.le_of_ble_eq_true rfl)) (fun r41 M42 hw => zz_kI hw (fun x45 hw => ?_)) (fun _ _ _ h9 => h9.elim) rfl
            refine zz_if_ne (tgt := 129) C dX6_single_121 (by decide) hw (fun hw => ?_) (fun hw => ?_)
            · refine zz_subP [1, 0] rfl ?_
              exact ok_X6_single_B129 C E hH hR hF hfrr h_X6_both h_X6_single h_X6_test hw
            · refine zz_aload_n C dX6_single_124 rfl 1 rfl ?_
              obtain ⟨a9, t9, b9, fs9, hro, hL, rfl, hw⟩ := ztyS hw
              obtain ⟨c9, s9, hc9, hs9, hw⟩ := hw
              refine zz_callV (r := (zR_3, zT_3, 3)) (As := []) (rest := []) C hR hro dX6_single_125 (Or.inl q911) q913 (Or.inl qs9) zl_DebateHall_Reader zk_X6_wrong (Or.inl rfl) zy_X6_wrong rfl (Nat.le_trans (by decide : 8 ≤ 9) hF) (by decide) hL (ok_X6_wrong (zz_hl C) hw) hc9 hs9 (zz_cat10 _ (Nat.le_of_ble_eq_true rfl)) (fun r46 M47 hw => zz_kA hw (fun x50 hw => ?_)) (fun _ _ _ h9 => h9.elim) rfl
              refine zz_athrow C dX6_single_128 hw (fun t9 q51 ht hw => ?_)
              rw [List.mem_singleton] at ht
              subst ht
              exact zz_out C E hH rfl hw
    · refine zz_aload_n C dX6_single_54 rfl 0 rfl ?_
      refine zz_ldcS (j := 7) C dX6_single_55 rfl ?_
      obtain ⟨a9, t9, b9, fs9, hro, hL, rfl, hw⟩ := ztyS hw
      obtain ⟨c9, s9, hc9, hs9, hw⟩ := hw
      refine zz_callV (r := (zR_3, zT_3, 3)) (As := [va_rf (some (zz_ad (zz_Zof G) 107))]) (rest := []) C hR hro dX6_single_57 (Or.inl q1034) q1036 (Or.inl qs16) zl_DebateHall_Reader zk_X6_deeper (Or.inl rfl) zy_X6_deeper rfl (Nat.le_trans (by decide : 9 ≤ 9) hF) (by decide) hL (ok_X6_deeper (zz_hl C) hw) hc9 hs9 (zz_cat10 _ (Nat.le_of_ble_eq_true rfl)) (fun r52 M53 hw => zz_kV hw (fun hw => ?_)) (fun t9 q75 M76 hx => ?_) rfl
      · refine zz_aload_n C dX6_single_60 rfl 0 rfl ?_
        obtain ⟨a9, t9, b9, fs9, hro, hL, rfl, hw⟩ := ztyS hw
        obtain ⟨c9, s9, hc9, hs9, hw⟩ := hw
        refine zz_callV (r := (zR_3, zT_3, 3)) (As := []) (rest := []) C hR hro dX6_single_61 (Or.inl q1002) q1004 (Or.inl qs13) zl_DebateHall_Reader zk_X6_test (Or.inl rfl) zy_X6_test rfl hfrr (by decide) hL (h_X6_test hw) hc9 hs9 (zz_cat10 _ (Nat.le_of_ble_eq_true rfl)) (fun r56 M57 hw => zz_kA hw (fun x60 hw => ?_)) (fun t9 q71 M72 hx => ?_) rfl
        · refine zz_astore_n (i := 1) (lv' := [(1, va_rf x60), (0, va_rf this)]) C dX6_single_64 rfl (by decide) (by simp [zz_cat, zz_catI, zz_catJ, zz_catD]) ?_
          refine zz_aload_n C dX6_single_65 rfl 1 rfl ?_
          refine zz_ldcS (j := 9) C dX6_single_66 rfl ?_
          obtain ⟨a9, t9, b9, fs9, hro, hL, rfl, hw⟩ := ztyS hw
          obtain ⟨c9, s9, hc9, hs9, hw⟩ := hw
          refine zz_callV (r := (zR_3, zT_3, 3)) (As := [va_rf (some (zz_ad (zz_Zof G) 109))]) (rest := []) C hR hro dX6_single_68 (Or.inl q969) q971 (Or.inl qs11) zl_DebateHall_Reader zk_X6_take_2 (Or.inl rfl) zy_X6_take_2 rfl (Nat.le_trans (by decide : 9 ≤ 9) hF) (by decide) hL (ok_X6_take_2 (zz_hl C) hw) hc9 hs9 (zz_cat10 _ (Nat.le_of_ble_eq_true rfl)) (fun r61 M62 hw => zz_kV hw (fun hw => ?_)) (fun t9 q67 M68 hx => ?_) rfl
          · refine zz_aload_n C dX6_single_71 rfl 1 rfl ?_
            refine zz_dup C dX6_single_72 (zz_cat _) ?_
            refine zz_getI C dX6_single_73 (Or.inl q852) zf_3_2_ateHall_Reader hw (fun x65 hw => ?_)
            refine zz_iconst (v := (1 : Int32)) C dX6_single_76 (by decide) ?_
            refine zz_isub C dX6_single_77 ?_
            refine zz_put C dX6_single_78 (Or.inl q852) zf_3_2_ateHall_Reader zp_3_2 (zz_hn1 ⟨rfl, rfl⟩) hw (fun M66 hw => ?_)
            refine zz_aload_n C dX6_single_81 rfl 0 rfl ?_
            exact zz_aret C E (Or.inl ⟨_, rfl⟩) dX6_single_82 hw
          · exact zz_out C E hH rfl hx
        · exact zz_out C E hH rfl hx
      · exact zz_out C E hH rfl hx
  · refine zz_aload_n C dX6_single_12 rfl 0 rfl ?_
    refine zz_ldcS (j := 46) C dX6_single_13 rfl ?_
    obtain ⟨a9, t9, b9, fs9, hro, hL, rfl, hw⟩ := ztyS hw
    obtain ⟨c9, s9, hc9, hs9, hw⟩ := hw
    refine zz_callV (r := (zR_3, zT_3, 3)) (As := [va_rf (some (zz_ad (zz_Zof G) 146))]) (rest := []) C hR hro dX6_single_15 (Or.inl q1034) q1036 (Or.inl qs16) zl_DebateHall_Reader zk_X6_deeper (Or.inl rfl) zy_X6_deeper rfl (Nat.le_trans (by decide : 9 ≤ 9) hF) (by decide) hL (ok_X6_deeper (zz_hl C) hw) hc9 hs9 (zz_cat10 _ (Nat.le_of_ble_eq_true rfl)) (fun r79 M80 hw => zz_kV hw (fun hw => ?_)) (fun t9 q102 M103 hx => ?_) rfl
    · refine zz_new (r := (zR_10, zT_10, 1)) C dX6_single_18 rfl (by decide) q1038 q1039 zl_DebateHall_Denied rfl hw (fun q83 M84 bc85 bs86 hw => ?_)
      refine zz_dup C dX6_single_21 (zz_cat _) ?_
      refine zz_aload_n C dX6_single_22 rfl 0 rfl ?_
      obtain ⟨a9, t9, b9, fs9, hro, hL, rfl, hw⟩ := ztyS hw
      obtain ⟨c9, s9, hc9, hs9, hw⟩ := hw
      refine zz_callV (r := (zR_3, zT_3, 3)) (As := []) (rest := [va_rf (some q83), va_rf (some q83)]) C hR hro dX6_single_23 (Or.inl q1029) q1031 (Or.inl qs15) zl_DebateHall_Reader zk_X6_single (Or.inl rfl) zy_X6_single rfl hfrr (by decide) hL (h_X6_single hw) hc9 hs9 (zz_cat10 _ (Nat.le_of_ble_eq_true rfl)) (fun r87 M88 hw => zz_kA hw (fun x91 hw => ?_)) (fun t9 q98 M99 hx => ?_) rfl
      · refine zz_callI (As := [va_rf x91]) (rest := [va_rf (some q83)]) (mc := 0) (ms := 0) C hR rfl dX6_single_26 (Or.inl q1040) q1041 zl_DebateHall_Denied zk_X15_init rfl zy_X15_init (Nat.le_trans (by decide : 4 ≤ 9) hF) (by decide) (ok_X15_init (zz_hl C) hw) (Nat.zero_le _) (Nat.zero_le _) (zz_cat10 _ (Nat.le_of_ble_eq_true rfl)) (fun r92 M93 hw => zz_kV hw (fun hw => ?_)) (fun _ _ _ h9 => h9.elim) rfl
        refine zz_astore_n (i := 1) (lv' := [(1, va_rf (some q83)), (0, va_rf this)]) C dX6_single_29 rfl (by decide) (by simp [zz_cat, zz_catI, zz_catJ, zz_catD]) ?_
        refine zz_aload_n C dX6_single_30 rfl 1 rfl ?_
        refine zz_dup C dX6_single_31 (zz_cat _) ?_
        refine zz_getI C dX6_single_32 (Or.inl q852) zf_3_2_ateHall_Reader hw (fun x96 hw => ?_)
        refine zz_iconst (v := (1 : Int32)) C dX6_single_35 (by decide) ?_
        refine zz_isub C dX6_single_36 ?_
        refine zz_put C dX6_single_37 (Or.inl q852) zf_3_2_ateHall_Reader zp_3_2 (zz_hn1 ⟨rfl, rfl⟩) hw (fun M97 hw => ?_)
        refine zz_aload_n C dX6_single_40 rfl 0 rfl ?_
        exact zz_aret C E (Or.inl ⟨_, rfl⟩) dX6_single_41 hw
      · exact zz_out C E hH rfl hx
    · exact zz_out C E hH rfl hx
theorem ok_X6_test_L9 {G : zzX} (C : zz_C G cX6_test "DebateHall$Reader" 2) {K : Option Value → zzM → Prop} {X : Nat → Nat → zzM → Prop} (E : zz_E G (some (.object "DebateHall$Test")) K X) (hH : zz_H G []) {fr frr : Nat} (hR : zz_Rm G fr) (hF : 9 ≤ fr) (hfrr : frr + 1 ≤ fr) {r_X6_both : Option Nat → zzM → Nat → Nat → (Option Value → zzM → Prop) → (Nat → Nat → zzM → Prop) → Prop} (h_X6_both : ∀ {u0 : Option Nat}{M : zzM} {mc ms : Nat} {K : Option Value → zzM → Prop} {X : Nat → Nat → zzM → Prop}, r_X6_both u0 M mc ms K X → zz_Met (zz_Zof G) (zz_l G) yX6_both (zz_ws yX6_both cX6_both 2 (some (.object "DebateHall$Test")) none) frr [va_rf u0] M mc ms K X) {r_X6_single : Option Nat → zzM → Nat → Nat → (Option Value → zzM → Prop) → (Nat → Nat → zzM → Prop) → Prop} (h_X6_single : ∀ {u0 : Option Nat}{M : zzM} {mc ms : Nat} {K : Option Value → zzM → Prop} {X : Nat → Nat → zzM → Prop}, r_X6_single u0 M mc ms K X → zz_Met (zz_Zof G) (zz_l G) yX6_single (zz_ws yX6_single cX6_single 2 (some (.object "DebateHall$Test")) none) frr [va_rf u0] M mc ms K X) {r_X6_test : Option Nat → zzM → Nat → Nat → (Option Value → zzM → Prop) → (Nat → Nat → zzM → Prop) → Prop} (h_X6_test : ∀ {u0 : Option Nat}{M : zzM} {mc ms : Nat} {K : Option Value → zzM → Prop} {X : Nat → Nat → zzM → Prop}, r_X6_test u0 M mc ms K X → zz_Met (zz_Zof G) (zz_l G) yX6_test (zz_ws yX6_test cX6_test 2 (some (.object "DebateHall$Test")) none) frr [va_rf u0] M mc ms K X) : ∀ (n : Nat) (v0 : Option Nat) (v1 : Option Nat) (M : zzM) (bc bs : Nat), wp_X6_test_L9 (zz_Zof G) r_X6_both r_X6_single r_X6_test K X n v0 v1 M bc bs → zz_T G 2 M bc bs 9 [(0, va_rf v0), (1, va_rf v1)] [] := by
  intro n
  induction n with
  | zero =>
    intro v0 v1 M bc bs hw
    exact False.elim hw
  | succ n ih =>
    intro v0 v1 M bc bs hw
    refine zz_aload_n C dX6_test_9 rfl 1 rfl ?_
    refine zz_getA C dX6_test_10 (Or.inr ⟨_, q1019⟩) zf_9_1_teHall_Several hw (fun x9 hw => ?_)
    refine zz_aload_n C dX6_test_13 rfl 0 rfl ?_
    obtain ⟨a9, t9, b9, fs9, hro, hL, rfl, hw⟩ := ztyS hw
    obtain ⟨c9, s9, hc9, hs9, hw⟩ := hw
    refine zz_callV (r := (zR_3, zT_3, 3)) (As := []) (rest := [va_rf x9]) C hR hro dX6_test_14 (Or.inl q1025) q1027 (Or.inl qs14) zl_DebateHall_Reader zk_X6_both (Or.inl rfl) zy_X6_both rfl hfrr (by decide) hL (h_X6_both hw) hc9 hs9 (zz_cat10 _ (Nat.le_of_ble_eq_true rfl)) (fun r10 M11 hw => zz_kA hw (fun x14 hw => ?_)) (fun t9 q25 M26 hx => ?_) rfl
    · obtain ⟨a9, t9, b9, fs9, hro, hL, rfl, hw⟩ := ztyS hw
      obtain ⟨c9, s9, hc9, hs9, hw⟩ := hw
      refine zz_callV (r := (zR_18, zT_18, 3)) (As := [va_rf x14]) (rest := []) C hR hro dX6_test_17 (Or.inl q1067) q776 (Or.inl q777) zl_java_util_ArrayList zk_J2_add (Or.inl rfl) zy_J2_add rfl (Nat.le_trans (by decide : 8 ≤ 9) hF) (by decide) hL (ok_J2_add (zz_hl C) hw) hc9 hs9 (zz_cat10 _ (Nat.le_of_ble_eq_true rfl)) (fun r15 M16 hw => zz_kI hw (fun x19 hw => ?_)) (fun _ _ _ h9 => h9.elim) rfl
      refine zz_pop C dX6_test_20 rfl ?_
      refine zz_aload_n C dX6_test_21 rfl 0 rfl ?_
      refine zz_ldcS (j := 56) C dX6_test_22 rfl ?_
      obtain ⟨a9, t9, b9, fs9, hro, hL, rfl, hw⟩ := ztyS hw
      refine zz_callV (r := (zR_3, zT_3, 3)) (As := [va_rf (some (zz_ad (zz_Zof G) 156))]) (rest := []) (mc := 0) (ms := 0) C hR hro dX6_test_24 (Or.inl q895) q897 (Or.inl qs7) zl_DebateHall_Reader zk_X6_takeIf (Or.inl rfl) zy_X6_takeIf rfl (Nat.le_trans (by decide : 6 ≤ 9) hF) (by decide) hL (ok_X6_takeIf (zz_hl C) hw) (Nat.zero_le _) (Nat.zero_le _) (zz_cat10 _ (Nat.le_of_ble_eq_true rfl)) (fun r20 M21 hw => zz_kI hw (fun x24 hw => ?_)) (fun _ _ _ h9 => h9.elim) rfl
      refine zz_if_ne (tgt := 9) C dX6_test_27 (by decide) hw (fun hw => ?_) (fun hw => ?_)
      · refine zz_subP [0, 1] rfl ?_
        exact ih _ _ _ _ _ hw
      · refine zz_aload_n C dX6_test_30 rfl 1 rfl ?_
        exact zz_aret C E (Or.inl ⟨_, rfl⟩) dX6_test_31 hw
    · exact zz_out C E hH rfl hx
theorem okb_X6_test {Z : zzG} {l : Launch} (hl : l.stackTraces = false) {fr frr : Nat} (hF : 9 ≤ fr) (hfrr : frr + 1 ≤ fr) {r_X6_both : Option Nat → zzM → Nat → Nat → (Option Value → zzM → Prop) → (Nat → Nat → zzM → Prop) → Prop} (h_X6_both : ∀ {u0 : Option Nat}{M : zzM} {mc ms : Nat} {K : Option Value → zzM → Prop} {X : Nat → Nat → zzM → Prop}, r_X6_both u0 M mc ms K X → zz_Met Z l yX6_both (zz_ws yX6_both cX6_both 2 (some (.object "DebateHall$Test")) none) frr [va_rf u0] M mc ms K X) {r_X6_single : Option Nat → zzM → Nat → Nat → (Option Value → zzM → Prop) → (Nat → Nat → zzM → Prop) → Prop} (h_X6_single : ∀ {u0 : Option Nat}{M : zzM} {mc ms : Nat} {K : Option Value → zzM → Prop} {X : Nat → Nat → zzM → Prop}, r_X6_single u0 M mc ms K X → zz_Met Z l yX6_single (zz_ws yX6_single cX6_single 2 (some (.object "DebateHall$Test")) none) frr [va_rf u0] M mc ms K X) {r_X6_test : Option Nat → zzM → Nat → Nat → (Option Value → zzM → Prop) → (Nat → Nat → zzM → Prop) → Prop} (h_X6_test : ∀ {u0 : Option Nat}{M : zzM} {mc ms : Nat} {K : Option Value → zzM → Prop} {X : Nat → Nat → zzM → Prop}, r_X6_test u0 M mc ms K X → zz_Met Z l yX6_test (zz_ws yX6_test cX6_test 2 (some (.object "DebateHall$Test")) none) frr [va_rf u0] M mc ms K X) {this : Option Nat} {M : zzM} {mc ms : Nat} {K : Option Value → zzM → Prop} {X : Nat → Nat → zzM → Prop} (hw : wpb_X6_test Z r_X6_both r_X6_single r_X6_test this M mc ms K X) : zz_Met Z l yX6_test (zz_ws yX6_test cX6_test 2 (some (.object "DebateHall$Test")) none) fr [va_rf this] M mc ms K X := by
  refine zz_ofW hl (plainFor_of_name (by decide)) (by simp only [zz_sl0, zz_slI, zz_slJ, zz_slA] <;> decide) (fun G hZ hll C E hH hR hin => ?_)
  subst hZ
  subst hll
  rw [show lv_args 0 [va_rf this] = [(0, va_rf this)] by simp only [zz_la0, zz_laI, zz_laJ, zz_laA]]
  unfold wpb_X6_test at hw
  refine zz_new (r := (zR_9, zT_9, 2)) C dX6_test_0 rfl (by decide) q1006 q1007 zl_DebateHall_Several rfl hw (fun q1 M2 bc3 bs4 hw => ?_)
  refine zz_dup C dX6_test_3 (zz_cat _) ?_
  refine zz_iconst (v := (0 : Int32)) C dX6_test_4 (by decide) ?_
  obtain ⟨c9, s9, hc9, hs9, hw⟩ := hw
  refine zz_callI (As := [.int (0 : Int32)]) (rest := [va_rf (some q1)]) C hR rfl dX6_test_5 (Or.inl q1008) q1009 zl_DebateHall_Several zk_X14_init rfl zy_X14_init (Nat.le_trans (by decide : 6 ≤ 9) hF) (by decide) (ok_X14_init (zz_hl C) hw) hc9 hs9 (zz_cat10 _ (Nat.le_of_ble_eq_true rfl)) (fun r5 M6 hw => zz_kV hw (fun hw => ?_)) (fun _ _ _ h9 => h9.elim) rfl
  refine zz_astore_n (i := 1) (lv' := [(1, va_rf (some q1)), (0, va_rf this)]) C dX6_test_8 rfl (by decide) (by simp [zz_cat, zz_catI, zz_catJ, zz_catD]) ?_
  refine zz_subP [1, 0] rfl ?_
  obtain ⟨n9, hw⟩ := hw
  exact ok_X6_test_L9 C E hH hR hF hfrr h_X6_both h_X6_single h_X6_test n9 _ _ _ _ _ hw
def wpR_X6_both_X6_single_X6_test (Z : zzG) : Nat → (Option Nat → zzM → Nat → Nat → (Option Value → zzM → Prop) → (Nat → Nat → zzM → Prop) → Prop) × (Option Nat → zzM → Nat → Nat → (Option Value → zzM → Prop) → (Nat → Nat → zzM → Prop) → Prop) × (Option Nat → zzM → Nat → Nat → (Option Value → zzM → Prop) → (Nat → Nat → zzM → Prop) → Prop)
  | 0 => (fun _ _ _ _ _ _ => False, fun _ _ _ _ _ _ => False, fun _ _ _ _ _ _ => False)
  | n + 1 => (wpb_X6_both Z ((wpR_X6_both_X6_single_X6_test Z n).1) ((wpR_X6_both_X6_single_X6_test Z n).2.1) ((wpR_X6_both_X6_single_X6_test Z n).2.2), wpb_X6_single Z ((wpR_X6_both_X6_single_X6_test Z n).1) ((wpR_X6_both_X6_single_X6_test Z n).2.1) ((wpR_X6_both_X6_single_X6_test Z n).2.2), wpb_X6_test Z ((wpR_X6_both_X6_single_X6_test Z n).1) ((wpR_X6_both_X6_single_X6_test Z n).2.1) ((wpR_X6_both_X6_single_X6_test Z n).2.2))
def wp_X6_both (Z : zzG) : Option Nat → zzM → Nat → Nat → (Option Value → zzM → Prop) → (Nat → Nat → zzM → Prop) → Prop := (wpR_X6_both_X6_single_X6_test Z 60).1
def wp_X6_single (Z : zzG) : Option Nat → zzM → Nat → Nat → (Option Value → zzM → Prop) → (Nat → Nat → zzM → Prop) → Prop := (wpR_X6_both_X6_single_X6_test Z 60).2.1
def wp_X6_test (Z : zzG) : Option Nat → zzM → Nat → Nat → (Option Value → zzM → Prop) → (Nat → Nat → zzM → Prop) → Prop := (wpR_X6_both_X6_single_X6_test Z 60).2.2
theorem okR_X6_both_X6_single_X6_test {Z : zzG} {l : Launch} (hl : l.stackTraces = false) : ∀ n : Nat, (∀ {u0 : Option Nat}{M : zzM} {mc ms : Nat} {K : Option Value → zzM → Prop} {X : Nat → Nat → zzM → Prop}, (wpR_X6_both_X6_single_X6_test Z n).1 u0 M mc ms K X → zz_Met Z l yX6_both (zz_ws yX6_both cX6_both 2 (some (.object "DebateHall$Test")) none) (9 + n) [va_rf u0] M mc ms K X) ∧ (∀ {u0 : Option Nat}{M : zzM} {mc ms : Nat} {K : Option Value → zzM → Prop} {X : Nat → Nat → zzM → Prop}, (wpR_X6_both_X6_single_X6_test Z n).2.1 u0 M mc ms K X → zz_Met Z l yX6_single (zz_ws yX6_single cX6_single 2 (some (.object "DebateHall$Test")) none) (9 + n) [va_rf u0] M mc ms K X) ∧ (∀ {u0 : Option Nat}{M : zzM} {mc ms : Nat} {K : Option Value → zzM → Prop} {X : Nat → Nat → zzM → Prop}, (wpR_X6_both_X6_single_X6_test Z n).2.2 u0 M mc ms K X → zz_Met Z l yX6_test (zz_ws yX6_test cX6_test 2 (some (.object "DebateHall$Test")) none) (9 + n) [va_rf u0] M mc ms K X) := by
  intro n
  induction n with
  | zero =>
    exact ⟨fun h => h.elim, fun h => h.elim, fun h => h.elim⟩
  | succ n ih =>
    exact ⟨fun h => okb_X6_both hl (fr := 9 + (n + 1)) (frr := 9 + n) (Nat.le_add_right _ _) (Nat.le_refl _) ih.1 ih.2.1 ih.2.2 h, fun h => okb_X6_single hl (fr := 9 + (n + 1)) (frr := 9 + n) (Nat.le_add_right _ _) (Nat.le_refl _) ih.1 ih.2.1 ih.2.2 h, fun h => okb_X6_test hl (fr := 9 + (n + 1)) (frr := 9 + n) (Nat.le_add_right _ _) (Nat.le_refl _) ih.1 ih.2.1 ih.2.2 h⟩
theorem ok_X6_both {Z : zzG} {l : Launch} (hl : l.stackTraces = false) {u0 : Option Nat} {M : zzM} {mc ms : Nat} {K : Option Value → zzM → Prop} {X : Nat → Nat → zzM → Prop} (hw : wp_X6_both Z u0 M mc ms K X) : zz_Met Z l yX6_both (zz_ws yX6_both cX6_both 2 (some (.object "DebateHall$Test")) none) 69 [va_rf u0] M mc ms K X :=
  (okR_X6_both_X6_single_X6_test hl 60).1 hw
theorem ok_X6_single {Z : zzG} {l : Launch} (hl : l.stackTraces = false) {u0 : Option Nat} {M : zzM} {mc ms : Nat} {K : Option Value → zzM → Prop} {X : Nat → Nat → zzM → Prop} (hw : wp_X6_single Z u0 M mc ms K X) : zz_Met Z l yX6_single (zz_ws yX6_single cX6_single 2 (some (.object "DebateHall$Test")) none) 69 [va_rf u0] M mc ms K X :=
  (okR_X6_both_X6_single_X6_test hl 60).2.1 hw
theorem ok_X6_test {Z : zzG} {l : Launch} (hl : l.stackTraces = false) {u0 : Option Nat} {M : zzM} {mc ms : Nat} {K : Option Value → zzM → Prop} {X : Nat → Nat → zzM → Prop} (hw : wp_X6_test Z u0 M mc ms K X) : zz_Met Z l yX6_test (zz_ws yX6_test cX6_test 2 (some (.object "DebateHall$Test")) none) 69 [va_rf u0] M mc ms K X :=
  (okR_X6_both_X6_single_X6_test hl 60).2.2 hw
abbrev cJ22_requireNonNull : ByteArray := prog_71_method_10_code
def yJ22_requireNonNull : MethodName := ⟨"java/util/Objects", "requireNonNull", "(Ljava/lang/Object;)Ljava/lang/Object;"⟩
def dkwJ22_requireNonNull_0 : List UInt8 := [42, 199, 0, 11, 187, 0, 84, 89, 183, 0, 86, 191, 42, 176]
abbrev dktJ22_requireNonNull_0 : List UInt8 := dkwJ22_requireNonNull_0 ++ []
theorem dksJ22_requireNonNull_0 : cJ22_requireNonNull.data.toList.drop 0 = dktJ22_requireNonNull_0 := by decide +kernel
theorem dJ22_requireNonNull_0 : decode cJ22_requireNonNull 0 = .ok (.aload_n 0, 1) := dk_42 (dk_at dksJ22_requireNonNull_0 0 rfl rfl)
theorem dJ22_requireNonNull_1 : decode cJ22_requireNonNull 1 = .ok (.ifnonnull 11, 3) := dk_199 0 11 (dk_at dksJ22_requireNonNull_0 1 rfl rfl)
theorem dJ22_requireNonNull_4 : decode cJ22_requireNonNull 4 = .ok (.new 84, 3) := dk_187 0 84 (dk_at dksJ22_requireNonNull_0 4 rfl rfl)
theorem dJ22_requireNonNull_12 : decode cJ22_requireNonNull 12 = .ok (.aload_n 0, 1) := dk_42 (dk_at dksJ22_requireNonNull_0 12 rfl rfl)
theorem dJ22_requireNonNull_13 : decode cJ22_requireNonNull 13 = .ok (.areturn, 1) := dk_176 (dk_at dksJ22_requireNonNull_0 13 rfl rfl)
def wp_J22_requireNonNull (Z : zzG) (p0 : Option Nat) (M : zzM) (K : Option Value → zzM → Prop) : Prop := if p0 = none then (False) else (K (some (va_rf p0)) M)
theorem ok_J22_requireNonNull {Z : zzG} {l : Launch} (hl : l.stackTraces = false) {p0 : Option Nat} {M : zzM} {mc ms : Nat} {K : Option Value → zzM → Prop} (hw : wp_J22_requireNonNull Z p0 M K) : zz_Met Z l yJ22_requireNonNull (zz_ws yJ22_requireNonNull cJ22_requireNonNull 1 (some (.object "java/lang/Object")) none) 1 [va_rf p0] M mc ms K (fun _ _ _ => False) := by
  refine zz_ofW hl (plainFor_of_name (by decide)) (by simp only [zz_sl0, zz_slI, zz_slJ, zz_slA] <;> decide) (fun G hZ hll C E hH hR hin => ?_)
  subst hZ
  subst hll
  rw [show lv_args 0 [va_rf p0] = [(0, va_rf p0)] by simp only [zz_la0, zz_laI, zz_laJ, zz_laA]]
  unfold wp_J22_requireNonNull at hw
  refine zz_aload_n C dJ22_requireNonNull_0 rfl 0 rfl ?_
  refine zz_ifnonnull (tgt := 12) C dJ22_requireNonNull_1 (by decide) hw (fun hw => ?_) (fun hw => ?_)
  · refine zz_aload_n C dJ22_requireNonNull_12 rfl 0 rfl ?_
    exact zz_aret C E (Or.inl ⟨_, rfl⟩) dJ22_requireNonNull_13 hw
  · exact hw.elim
abbrev cJ23_init : ByteArray := prog_72_method_2_code
def yJ23_init : MethodName := ⟨"java/util/Optional", "<init>", "(Ljava/lang/Object;)V"⟩
def dkwJ23_init_0 : List UInt8 := [42, 183, 0, 7, 42, 43, 181, 0, 13, 177]
abbrev dktJ23_init_0 : List UInt8 := dkwJ23_init_0 ++ []
theorem dksJ23_init_0 : cJ23_init.data.toList.drop 0 = dktJ23_init_0 := by decide +kernel
theorem dJ23_init_0 : decode cJ23_init 0 = .ok (.aload_n 0, 1) := dk_42 (dk_at dksJ23_init_0 0 rfl rfl)
theorem dJ23_init_1 : decode cJ23_init 1 = .ok (.invokespecial 7, 3) := dk_183 0 7 (dk_at dksJ23_init_0 1 rfl rfl)
theorem dJ23_init_4 : decode cJ23_init 4 = .ok (.aload_n 0, 1) := dk_42 (dk_at dksJ23_init_0 4 rfl rfl)
theorem dJ23_init_5 : decode cJ23_init 5 = .ok (.aload_n 1, 1) := dk_43 (dk_at dksJ23_init_0 5 rfl rfl)
theorem dJ23_init_6 : decode cJ23_init 6 = .ok (.putfield 13, 3) := dk_181 0 13 (dk_at dksJ23_init_0 6 rfl rfl)
theorem dJ23_init_9 : decode cJ23_init 9 = .ok (.return_, 1) := dk_177 (dk_at dksJ23_init_0 9 rfl rfl)
theorem q1081 : (Jvm.Cond.methodLink "java/util/Optional" (7 : Nat) ({ cls := "java/lang/Object", name := "<init>", desc := "()V" } : Jvm.MethodName)) ∈ lw_all := lw_g (lw_at lw_m5 41 rfl) rfl
theorem zf_22_0__util_Optional : zz_fok [22] 0 "java/util/Optional" "value" "Ljava/lang/Object;" := zz_fok1 (zR_22, zT_22, 1) rfl (by decide) rfl rfl (Or.inl rfl)
theorem q1082 : (Jvm.Cond.fieldLink "java/util/Optional" (13 : Nat) "java/util/Optional" "value" "Ljava/lang/Object;") ∈ lw_all := lw_g (lw_at lw_m5 42 rfl) rfl
theorem zq_22_0 : zz_pokF [22] 0 "java/util/Optional" := zz_pokF1 (zR_22, zT_22, 1) (by decide) rfl rfl rfl
def wp_J23_init (Z : zzG) (this : Option Nat) (p0 : Option Nat) (M : zzM) (K : Option Value → zzM → Prop) : Prop := zty Z M this fun _ => zput Z M this [22] 0 (va_rf p0) fun M1 => K none M1
theorem ok_J23_init {Z : zzG} {l : Launch} (hl : l.stackTraces = false) {this : Option Nat} {p0 : Option Nat} {M : zzM} {mc ms : Nat} {K : Option Value → zzM → Prop} (hw : wp_J23_init Z this p0 M K) : zz_Met Z l yJ23_init (zz_ws yJ23_init cJ23_init 2 none none) 2 [va_rf this, va_rf p0] M mc ms K (fun _ _ _ => False) := by
  refine zz_ofW hl (plainFor_of_name (by decide)) (by simp only [zz_sl0, zz_slI, zz_slJ, zz_slA] <;> decide) (fun G hZ hll C E hH hR hin => ?_)
  subst hZ
  subst hll
  rw [show lv_args 0 [va_rf this, va_rf p0] = [(0, va_rf this), (1, va_rf p0)] by simp only [zz_la0, zz_laI, zz_laJ, zz_laA]]
  unfold wp_J23_init at hw
  refine zz_aload_n C dJ23_init_0 rfl 0 rfl ?_
  obtain ⟨a9, t9, b9, fs9, hro, hL, hw⟩ := ztyS hw
  refine zz_objInit9 C hR (by decide) hro dJ23_init_1 q1081 q146 q147 (zz_cat10 _ (Nat.le_of_ble_eq_true rfl)) ?_
  refine zz_aload_n C dJ23_init_4 rfl 0 rfl ?_
  refine zz_aload_n C dJ23_init_5 rfl 1 rfl ?_
  refine zz_putF C hin dJ23_init_6 q1082 zf_22_0__util_Optional zq_22_0 (zz_hn1 (zz_nA _ rfl p0)) hw (fun M1 hw => ?_)
  exact zz_vret C E dJ23_init_9 hw
abbrev cJ23_of : ByteArray := prog_72_method_3_code
def yJ23_of : MethodName := ⟨"java/util/Optional", "of", "(Ljava/lang/Object;)Ljava/util/Optional;"⟩
def dkwJ23_of_0 : List UInt8 := [187, 0, 2, 89, 42, 184, 0, 17, 183, 0, 23, 176]
abbrev dktJ23_of_0 : List UInt8 := dkwJ23_of_0 ++ []
theorem dksJ23_of_0 : cJ23_of.data.toList.drop 0 = dktJ23_of_0 := by decide +kernel
theorem dJ23_of_0 : decode cJ23_of 0 = .ok (.new 2, 3) := dk_187 0 2 (dk_at dksJ23_of_0 0 rfl rfl)
theorem dJ23_of_3 : decode cJ23_of 3 = .ok (.dup, 1) := dk_89 (dk_at dksJ23_of_0 3 rfl rfl)
theorem dJ23_of_4 : decode cJ23_of 4 = .ok (.aload_n 0, 1) := dk_42 (dk_at dksJ23_of_0 4 rfl rfl)
theorem dJ23_of_5 : decode cJ23_of 5 = .ok (.invokestatic 17, 3) := dk_184 0 17 (dk_at dksJ23_of_0 5 rfl rfl)
theorem dJ23_of_8 : decode cJ23_of 8 = .ok (.invokespecial 23, 3) := dk_183 0 23 (dk_at dksJ23_of_0 8 rfl rfl)
theorem dJ23_of_11 : decode cJ23_of 11 = .ok (.areturn, 1) := dk_176 (dk_at dksJ23_of_0 11 rfl rfl)
theorem q1073 : (Jvm.Cond.classLink "java/util/Optional" (2 : Nat) "java/util/Optional") ∈ lw_all := lw_g (lw_at lw_m5 33 rfl) rfl
theorem zl_java_util_Optional : Cond.initialized "java/util/Optional" ∈ lw_all := q124
theorem q1077 : (Jvm.Cond.code ({ cls := "java/util/Objects", name := "requireNonNull", desc := "(Ljava/lang/Object;)Ljava/lang/Object;" } : Jvm.MethodName) prog_71_method_10_code (1 : Nat) (Option.some (Jvm.ClassFile.FieldType.object "java/lang/Object"))) ∈ lw_all := lw_g (lw_at lw_m5 37 rfl) rfl
theorem zk_J22_requireNonNull : zz_cd yJ22_requireNonNull cJ22_requireNonNull 1 (some (.object "java/lang/Object")) none ∈ lw_all := q1077
theorem zy_J22_requireNonNull : zz_yok yJ22_requireNonNull 1 = true := by decide +kernel
theorem q1080 : (Jvm.Cond.code ({ cls := "java/util/Optional", name := "<init>", desc := "(Ljava/lang/Object;)V" } : Jvm.MethodName) prog_72_method_2_code (2 : Nat) (Option.none : Option Jvm.ClassFile.FieldType)) ∈ lw_all := lw_g (lw_at lw_m5 40 rfl) rfl
theorem zk_J23_init : zz_cd yJ23_init cJ23_init 2 none none ∈ lw_all := q1080
theorem zy_J23_init : zz_yok yJ23_init 1 = true := by decide +kernel
theorem q1078 : (Jvm.Cond.methodLink "java/util/Optional" (23 : Nat) ({ cls := "java/util/Optional", name := "<init>", desc := "(Ljava/lang/Object;)V" } : Jvm.MethodName)) ∈ lw_all := lw_g (lw_at lw_m5 38 rfl) rfl
theorem q1079 : (Jvm.Cond.instanceMethod ({ cls := "java/util/Optional", name := "<init>", desc := "(Ljava/lang/Object;)V" } : Jvm.MethodName)) ∈ lw_all := lw_g (lw_at lw_m5 39 rfl) rfl
theorem q1075 : (Jvm.Cond.methodLink "java/util/Optional" (17 : Nat) ({ cls := "java/util/Objects", name := "requireNonNull", desc := "(Ljava/lang/Object;)Ljava/lang/Object;" } : Jvm.MethodName)) ∈ lw_all := lw_g (lw_at lw_m5 35 rfl) rfl
theorem q1076 : (Jvm.Cond.static ({ cls := "java/util/Objects", name := "requireNonNull", desc := "(Ljava/lang/Object;)Ljava/lang/Object;" } : Jvm.MethodName)) ∈ lw_all := lw_g (lw_at lw_m5 36 rfl) rfl
def wp_J23_of (Z : zzG) (p0 : Option Nat) (M : zzM) (bc bs : Nat) (K : Option Value → zzM → Prop) : Prop := znew Z M bc bs 22 1 [.null] fun q1 M2 bc3 bs4 => wp_J22_requireNonNull Z p0 M2 (fun r5 M6 => zrA r5 fun x9 => wp_J23_init Z (some q1) x9 M6 (fun r10 M11 => zrV r10 (K (some (va_rf (some q1))) M11)))
theorem ok_J23_of {Z : zzG} {l : Launch} (hl : l.stackTraces = false) {p0 : Option Nat} {M : zzM} {mc ms : Nat} {K : Option Value → zzM → Prop} (hw : wp_J23_of Z p0 M mc ms K) : zz_Met Z l yJ23_of (zz_ws yJ23_of cJ23_of 1 (some (.object "java/util/Optional")) none) 3 [va_rf p0] M mc ms K (fun _ _ _ => False) := by
  refine zz_ofW hl (plainFor_of_name (by decide)) (by simp only [zz_sl0, zz_slI, zz_slJ, zz_slA] <;> decide) (fun G hZ hll C E hH hR hin => ?_)
  subst hZ
  subst hll
  rw [show lv_args 0 [va_rf p0] = [(0, va_rf p0)] by simp only [zz_la0, zz_laI, zz_laJ, zz_laA]]
  unfold wp_J23_of at hw
  refine zz_new (r := (zR_22, zT_22, 1)) C dJ23_of_0 rfl (by decide) q1073 q1074 zl_java_util_Optional rfl hw (fun q1 M2 bc3 bs4 hw => ?_)
  refine zz_dup C dJ23_of_3 (zz_cat _) ?_
  refine zz_aload_n C dJ23_of_4 rfl 0 rfl ?_
  refine zz_callS (As := [va_rf p0]) (rest := [va_rf (some q1), va_rf (some q1)]) (mc := 0) (ms := 0) C hR dJ23_of_5 (Or.inl q1075) q1076 zl_java_util_Objects zk_J22_requireNonNull (Or.inl rfl) zy_J22_requireNonNull (by decide) (by decide) (ok_J22_requireNonNull (zz_hl C) hw) (Nat.zero_le _) (Nat.zero_le _) (zz_cat10 _ (Nat.le_of_ble_eq_true rfl)) (fun r5 M6 hw => zz_kA hw (fun x9 hw => ?_)) (fun _ _ _ h9 => h9.elim) rfl
  refine zz_callI (As := [va_rf x9]) (rest := [va_rf (some q1)]) (mc := 0) (ms := 0) C hR rfl dJ23_of_8 (Or.inl q1078) q1079 zl_java_util_Optional zk_J23_init rfl zy_J23_init (by decide) (by decide) (ok_J23_init (zz_hl C) hw) (Nat.zero_le _) (Nat.zero_le _) (zz_cat10 _ (Nat.le_of_ble_eq_true rfl)) (fun r10 M11 hw => zz_kV hw (fun hw => ?_)) (fun _ _ _ h9 => h9.elim) rfl
  exact zz_aret C E (Or.inl ⟨_, rfl⟩) dJ23_of_11 hw
abbrev cX17_init : ByteArray := prog_21_method_1_code
def yX17_init : MethodName := ⟨"DebateHall$Thrust", "<init>", "(LDebateHall$Kind;LDebateHall$Token;LDebateHall$Token;LDebateHall$Token;LDebateHall$Token;Ljava/util/Optional;)V"⟩
def dkwX17_init_1 : List UInt8 := [181, 0, 22, 42, 25, 5, 181, 0, 25, 42, 25, 6, 181, 0, 28, 177]
abbrev dktX17_init_1 : List UInt8 := dkwX17_init_1 ++ []
def dkwX17_init_0 : List UInt8 := [42, 183, 0, 3, 42, 43, 181, 0, 9, 42, 44, 181, 0, 15, 42, 45, 181, 0, 19, 42, 25, 4]
abbrev dktX17_init_0 : List UInt8 := dkwX17_init_0 ++ dktX17_init_1
theorem dksX17_init_0 : cX17_init.data.toList.drop 0 = dktX17_init_0 := by decide +kernel
theorem dksX17_init_1 : cX17_init.data.toList.drop 22 = dktX17_init_1 := dk_seg dksX17_init_0 22 rfl rfl
theorem dX17_init_0 : decode cX17_init 0 = .ok (.aload_n 0, 1) := dk_42 (dk_at dksX17_init_0 0 rfl rfl)
theorem dX17_init_1 : decode cX17_init 1 = .ok (.invokespecial 3, 3) := dk_183 0 3 (dk_at dksX17_init_0 1 rfl rfl)
theorem dX17_init_4 : decode cX17_init 4 = .ok (.aload_n 0, 1) := dk_42 (dk_at dksX17_init_0 4 rfl rfl)
theorem dX17_init_5 : decode cX17_init 5 = .ok (.aload_n 1, 1) := dk_43 (dk_at dksX17_init_0 5 rfl rfl)
theorem dX17_init_6 : decode cX17_init 6 = .ok (.putfield 9, 3) := dk_181 0 9 (dk_at dksX17_init_0 6 rfl rfl)
theorem dX17_init_9 : decode cX17_init 9 = .ok (.aload_n 0, 1) := dk_42 (dk_at dksX17_init_0 9 rfl rfl)
theorem dX17_init_10 : decode cX17_init 10 = .ok (.aload_n 2, 1) := dk_44 (dk_at dksX17_init_0 10 rfl rfl)
theorem dX17_init_11 : decode cX17_init 11 = .ok (.putfield 15, 3) := dk_181 0 15 (dk_at dksX17_init_0 11 rfl rfl)
theorem dX17_init_14 : decode cX17_init 14 = .ok (.aload_n 0, 1) := dk_42 (dk_at dksX17_init_0 14 rfl rfl)
theorem dX17_init_15 : decode cX17_init 15 = .ok (.aload_n 3, 1) := dk_45 (dk_at dksX17_init_0 15 rfl rfl)
theorem dX17_init_16 : decode cX17_init 16 = .ok (.putfield 19, 3) := dk_181 0 19 (dk_at dksX17_init_0 16 rfl rfl)
theorem dX17_init_19 : decode cX17_init 19 = .ok (.aload_n 0, 1) := dk_42 (dk_at dksX17_init_0 19 rfl rfl)
theorem dX17_init_20 : decode cX17_init 20 = .ok (.aload 4, 2) := dk_25 4 (dk_at dksX17_init_0 20 rfl rfl)
theorem dX17_init_22 : decode cX17_init 22 = .ok (.putfield 22, 3) := dk_181 0 22 (dk_at dksX17_init_1 0 rfl rfl)
theorem dX17_init_25 : decode cX17_init 25 = .ok (.aload_n 0, 1) := dk_42 (dk_at dksX17_init_1 3 rfl rfl)
theorem dX17_init_26 : decode cX17_init 26 = .ok (.aload 5, 2) := dk_25 5 (dk_at dksX17_init_1 4 rfl rfl)
theorem dX17_init_28 : decode cX17_init 28 = .ok (.putfield 25, 3) := dk_181 0 25 (dk_at dksX17_init_1 6 rfl rfl)
theorem dX17_init_31 : decode cX17_init 31 = .ok (.aload_n 0, 1) := dk_42 (dk_at dksX17_init_1 9 rfl rfl)
theorem dX17_init_32 : decode cX17_init 32 = .ok (.aload 6, 2) := dk_25 6 (dk_at dksX17_init_1 10 rfl rfl)
theorem dX17_init_34 : decode cX17_init 34 = .ok (.putfield 28, 3) := dk_181 0 28 (dk_at dksX17_init_1 12 rfl rfl)
theorem dX17_init_37 : decode cX17_init 37 = .ok (.return_, 1) := dk_177 (dk_at dksX17_init_1 15 rfl rfl)
theorem zf_12_1_ateHall_Thrust : zz_fok [12] 1 "DebateHall$Thrust" "kind" "LDebateHall$Kind;" := zz_fok1 (zR_12, zT_12, 7) rfl (by decide) rfl rfl (Or.inl rfl)
theorem q1097 : (Jvm.Cond.fieldLink "DebateHall$Thrust" (9 : Nat) "DebateHall$Thrust" "kind" "LDebateHall$Kind;") ∈ lw_all := lw_g (lw_at lw_m5 57 rfl) rfl
theorem zq_12_1 : zz_pokF [12] 1 "DebateHall$Thrust" := zz_pokF1 (zR_12, zT_12, 7) (by decide) rfl rfl rfl
theorem zf_12_2_ateHall_Thrust : zz_fok [12] 2 "DebateHall$Thrust" "name" "LDebateHall$Token;" := zz_fok1 (zR_12, zT_12, 7) rfl (by decide) rfl rfl (Or.inl rfl)
theorem q1098 : (Jvm.Cond.fieldLink "DebateHall$Thrust" (15 : Nat) "DebateHall$Thrust" "name" "LDebateHall$Token;") ∈ lw_all := lw_g (lw_at lw_m5 58 rfl) rfl
theorem zq_12_2 : zz_pokF [12] 2 "DebateHall$Thrust" := zz_pokF1 (zR_12, zT_12, 7) (by decide) rfl rfl rfl
theorem zf_12_3_ateHall_Thrust : zz_fok [12] 3 "DebateHall$Thrust" "from" "LDebateHall$Token;" := zz_fok1 (zR_12, zT_12, 7) rfl (by decide) rfl rfl (Or.inl rfl)
theorem q1099 : (Jvm.Cond.fieldLink "DebateHall$Thrust" (19 : Nat) "DebateHall$Thrust" "from" "LDebateHall$Token;") ∈ lw_all := lw_g (lw_at lw_m5 59 rfl) rfl
theorem zq_12_3 : zz_pokF [12] 3 "DebateHall$Thrust" := zz_pokF1 (zR_12, zT_12, 7) (by decide) rfl rfl rfl
theorem zf_12_4_ateHall_Thrust : zz_fok [12] 4 "DebateHall$Thrust" "to" "LDebateHall$Token;" := zz_fok1 (zR_12, zT_12, 7) rfl (by decide) rfl rfl (Or.inl rfl)
theorem q1100 : (Jvm.Cond.fieldLink "DebateHall$Thrust" (22 : Nat) "DebateHall$Thrust" "to" "LDebateHall$Token;") ∈ lw_all := lw_g (lw_at lw_m5 60 rfl) rfl
theorem zq_12_4 : zz_pokF [12] 4 "DebateHall$Thrust" := zz_pokF1 (zR_12, zT_12, 7) (by decide) rfl rfl rfl
theorem zf_12_5_ateHall_Thrust : zz_fok [12] 5 "DebateHall$Thrust" "force" "LDebateHall$Token;" := zz_fok1 (zR_12, zT_12, 7) rfl (by decide) rfl rfl (Or.inl rfl)
theorem q1101 : (Jvm.Cond.fieldLink "DebateHall$Thrust" (25 : Nat) "DebateHall$Thrust" "force" "LDebateHall$Token;") ∈ lw_all := lw_g (lw_at lw_m5 61 rfl) rfl
theorem zq_12_5 : zz_pokF [12] 5 "DebateHall$Thrust" := zz_pokF1 (zR_12, zT_12, 7) (by decide) rfl rfl rfl
theorem zf_12_6_ateHall_Thrust : zz_fok [12] 6 "DebateHall$Thrust" "test" "Ljava/util/Optional;" := zz_fok1 (zR_12, zT_12, 7) rfl (by decide) rfl rfl (Or.inl rfl)
theorem q1102 : (Jvm.Cond.fieldLink "DebateHall$Thrust" (28 : Nat) "DebateHall$Thrust" "test" "Ljava/util/Optional;") ∈ lw_all := lw_g (lw_at lw_m5 62 rfl) rfl
theorem zq_12_6 : zz_pokF [12] 6 "DebateHall$Thrust" := zz_pokF1 (zR_12, zT_12, 7) (by decide) rfl rfl rfl
theorem q1096 : (Jvm.Cond.methodLinkNest "DebateHall$Thrust" (3 : Nat) ({ cls := "DebateHall$Line", name := "<init>", desc := "()V" } : Jvm.MethodName) "DebateHall") ∈ lw_tbl := lw_at lw_m5 56 rfl
def wp_X17_init (Z : zzG) (this : Option Nat) (p0 : Option Nat) (p1 : Option Nat) (p2 : Option Nat) (p3 : Option Nat) (p4 : Option Nat) (p5 : Option Nat) (M : zzM) (K : Option Value → zzM → Prop) : Prop := zty Z M this fun _ => wp_X10_init Z this M (fun r1 M2 => zrV r1 (zput Z M2 this [12] 1 (va_rf p0) fun M5 => zput Z M5 this [12] 2 (va_rf p1) fun M6 => zput Z M6 this [12] 3 (va_rf p2) fun M7 => zput Z M7 this [12] 4 (va_rf p3) fun M8 => zput Z M8 this [12] 5 (va_rf p4) fun M9 => zput Z M9 this [12] 6 (va_rf p5) fun M10 => K none M10))
theorem ok_X17_init {Z : zzG} {l : Launch} (hl : l.stackTraces = false) {this : Option Nat} {p0 : Option Nat} {p1 : Option Nat} {p2 : Option Nat} {p3 : Option Nat} {p4 : Option Nat} {p5 : Option Nat} {M : zzM} {mc ms : Nat} {K : Option Value → zzM → Prop} (hw : wp_X17_init Z this p0 p1 p2 p3 p4 p5 M K) : zz_Met Z l yX17_init (zz_ws yX17_init cX17_init 7 none none) 3 [va_rf this, va_rf p0, va_rf p1, va_rf p2, va_rf p3, va_rf p4, va_rf p5] M mc ms K (fun _ _ _ => False) := by
  refine zz_ofW hl (plainFor_of_name (by decide)) (by simp only [zz_sl0, zz_slI, zz_slJ, zz_slA] <;> decide) (fun G hZ hll C E hH hR hin => ?_)
  subst hZ
  subst hll
  rw [show lv_args 0 [va_rf this, va_rf p0, va_rf p1, va_rf p2, va_rf p3, va_rf p4, va_rf p5] = [(0, va_rf this), (1, va_rf p0), (2, va_rf p1), (3, va_rf p2), (4, va_rf p3), (5, va_rf p4), (6, va_rf p5)] by simp only [zz_la0, zz_laI, zz_laJ, zz_laA]]
  unfold wp_X17_init at hw
  refine zz_aload_n C dX17_init_0 rfl 0 rfl ?_
  obtain ⟨a9, t9, b9, fs9, hro, hL, hw⟩ := ztyS hw
  refine zz_callI (As := []) (rest := []) (mc := 0) (ms := 0) C hR hro dX17_init_1 (Or.inr ⟨_, q1096⟩) q953 zl_DebateHall_Line zk_X10_init rfl zy_X10_init (by decide) (by decide) (ok_X10_init (zz_hl C) hw) (Nat.zero_le _) (Nat.zero_le _) (zz_cat10 _ (Nat.le_of_ble_eq_true rfl)) (fun r1 M2 hw => zz_kV hw (fun hw => ?_)) (fun _ _ _ h9 => h9.elim) rfl
  refine zz_aload_n C dX17_init_4 rfl 0 rfl ?_
  refine zz_aload_n C dX17_init_5 rfl 1 rfl ?_
  refine zz_putF C hin dX17_init_6 q1097 zf_12_1_ateHall_Thrust zq_12_1 (zz_hn1 (zz_nA _ rfl p0)) hw (fun M5 hw => ?_)
  refine zz_aload_n C dX17_init_9 rfl 0 rfl ?_
  refine zz_aload_n C dX17_init_10 rfl 2 rfl ?_
  refine zz_putF C hin dX17_init_11 q1098 zf_12_2_ateHall_Thrust zq_12_2 (zz_hn1 (zz_nA _ rfl p1)) hw (fun M6 hw => ?_)
  refine zz_aload_n C dX17_init_14 rfl 0 rfl ?_
  refine zz_aload_n C dX17_init_15 rfl 3 rfl ?_
  refine zz_putF C hin dX17_init_16 q1099 zf_12_3_ateHall_Thrust zq_12_3 (zz_hn1 (zz_nA _ rfl p2)) hw (fun M7 hw => ?_)
  refine zz_aload_n C dX17_init_19 rfl 0 rfl ?_
  refine zz_aload C dX17_init_20 4 rfl ?_
  refine zz_putF C hin dX17_init_22 q1100 zf_12_4_ateHall_Thrust zq_12_4 (zz_hn1 (zz_nA _ rfl p3)) hw (fun M8 hw => ?_)
  refine zz_aload_n C dX17_init_25 rfl 0 rfl ?_
  refine zz_aload C dX17_init_26 5 rfl ?_
  refine zz_putF C hin dX17_init_28 q1101 zf_12_5_ateHall_Thrust zq_12_5 (zz_hn1 (zz_nA _ rfl p4)) hw (fun M9 hw => ?_)
  refine zz_aload_n C dX17_init_31 rfl 0 rfl ?_
  refine zz_aload C dX17_init_32 6 rfl ?_
  refine zz_putF C hin dX17_init_34 q1102 zf_12_6_ateHall_Thrust zq_12_6 (zz_hn1 (zz_nA _ rfl p5)) hw (fun M10 hw => ?_)
  exact zz_vret C E dX17_init_37 hw
abbrev cJ23_empty : ByteArray := prog_72_method_1_code
def yJ23_empty : MethodName := ⟨"java/util/Optional", "empty", "()Ljava/util/Optional;"⟩
def dkwJ23_empty_0 : List UInt8 := [178, 0, 1, 75, 42, 176]
abbrev dktJ23_empty_0 : List UInt8 := dkwJ23_empty_0 ++ []
theorem dksJ23_empty_0 : cJ23_empty.data.toList.drop 0 = dktJ23_empty_0 := by decide +kernel
theorem dJ23_empty_0 : decode cJ23_empty 0 = .ok (.getstatic 1, 3) := dk_178 0 1 (dk_at dksJ23_empty_0 0 rfl rfl)
theorem dJ23_empty_3 : decode cJ23_empty 3 = .ok (.astore_n 0, 1) := dk_75 (dk_at dksJ23_empty_0 3 rfl rfl)
theorem dJ23_empty_4 : decode cJ23_empty 4 = .ok (.aload_n 0, 1) := dk_42 (dk_at dksJ23_empty_0 4 rfl rfl)
theorem dJ23_empty_5 : decode cJ23_empty 5 = .ok (.areturn, 1) := dk_176 (dk_at dksJ23_empty_0 5 rfl rfl)
theorem q1089 : (Jvm.Cond.fieldLink "java/util/Optional" (1 : Nat) "java/util/Optional" "EMPTY" "Ljava/util/Optional;") ∈ lw_all := lw_g (lw_at lw_m5 49 rfl) rfl
def wp_J23_empty (Z : zzG) (M : zzM) (K : Option Value → zzM → Prop) : Prop := K (some (va_rf (some (zz_ad Z 11)))) M
theorem ok_J23_empty {Z : zzG} {l : Launch} (hl : l.stackTraces = false) {M : zzM} {mc ms : Nat} {K : Option Value → zzM → Prop} (hw : wp_J23_empty Z M K) : zz_Met Z l yJ23_empty (zz_ws yJ23_empty cJ23_empty 1 (some (.object "java/util/Optional")) none) 1 [] M mc ms K (fun _ _ _ => False) := by
  refine zz_ofW hl (plainFor_of_name (by decide)) (by simp only [zz_sl0, zz_slI, zz_slJ, zz_slA] <;> decide) (fun G hZ hll C E hH hR hin => ?_)
  subst hZ
  subst hll
  rw [show lv_args 0 [] = [] by simp only [zz_la0, zz_laI, zz_laJ, zz_laA]]
  unfold wp_J23_empty at hw
  refine zz_gets (j := 11) (v := va_rf (some (zz_ad (zz_Zof G) 11))) C dJ23_empty_0 (Or.inl q1089) rfl (Or.inl rfl) rfl ?_
  refine zz_astore_n (i := 0) (lv' := [(0, va_rf (some (zz_ad (zz_Zof G) 11)))]) C dJ23_empty_3 rfl (by decide) rfl ?_
  refine zz_aload_n C dJ23_empty_4 rfl 0 rfl ?_
  exact zz_aret C E (Or.inl ⟨_, rfl⟩) dJ23_empty_5 hw
abbrev cX6_thrust : ByteArray := prog_13_method_11_code
def yX6_thrust : MethodName := ⟨"DebateHall$Reader", "thrust", "(LDebateHall$Kind;Ljava/lang/String;)LDebateHall$Line;"⟩
def dkwX6_thrust_3 : List UInt8 := [89, 43, 45, 25, 4, 25, 5, 25, 6, 25, 7, 183, 0, 168, 176]
abbrev dktX6_thrust_3 : List UInt8 := dkwX6_thrust_3 ++ []
def dkwX6_thrust_2 : List UInt8 := [182, 0, 41, 153, 0, 13, 42, 182, 0, 152, 184, 0, 156, 167, 0, 6, 184, 0, 162, 58, 7, 187, 0, 166]
abbrev dktX6_thrust_2 : List UInt8 := dkwX6_thrust_2 ++ dktX6_thrust_3
def dkwX6_thrust_1 : List UInt8 := [44, 182, 0, 75, 42, 178, 0, 91, 182, 0, 86, 58, 5, 42, 18, 148, 182, 0, 98, 58, 6, 42, 18, 150]
abbrev dktX6_thrust_1 : List UInt8 := dkwX6_thrust_1 ++ dktX6_thrust_2
def dkwX6_thrust_0 : List UInt8 := [42, 178, 0, 91, 182, 0, 86, 78, 42, 18, 146, 182, 0, 75, 42, 178, 0, 91, 182, 0, 86, 58, 4, 42]
abbrev dktX6_thrust_0 : List UInt8 := dkwX6_thrust_0 ++ dktX6_thrust_1
theorem dksX6_thrust_0 : cX6_thrust.data.toList.drop 0 = dktX6_thrust_0 := by decide +kernel
theorem dksX6_thrust_1 : cX6_thrust.data.toList.drop 24 = dktX6_thrust_1 := dk_seg dksX6_thrust_0 24 rfl rfl
theorem dksX6_thrust_2 : cX6_thrust.data.toList.drop 48 = dktX6_thrust_2 := dk_seg dksX6_thrust_1 24 rfl rfl
theorem dksX6_thrust_3 : cX6_thrust.data.toList.drop 72 = dktX6_thrust_3 := dk_seg dksX6_thrust_2 24 rfl rfl
theorem dX6_thrust_0 : decode cX6_thrust 0 = .ok (.aload_n 0, 1) := dk_42 (dk_at dksX6_thrust_0 0 rfl rfl)
theorem dX6_thrust_1 : decode cX6_thrust 1 = .ok (.getstatic 91, 3) := dk_178 0 91 (dk_at dksX6_thrust_0 1 rfl rfl)
theorem dX6_thrust_4 : decode cX6_thrust 4 = .ok (.invokevirtual 86, 3) := dk_182 0 86 (dk_at dksX6_thrust_0 4 rfl rfl)
theorem dX6_thrust_7 : decode cX6_thrust 7 = .ok (.astore_n 3, 1) := dk_78 (dk_at dksX6_thrust_0 7 rfl rfl)
theorem dX6_thrust_8 : decode cX6_thrust 8 = .ok (.aload_n 0, 1) := dk_42 (dk_at dksX6_thrust_0 8 rfl rfl)
theorem dX6_thrust_9 : decode cX6_thrust 9 = .ok (.ldc 146, 2) := dk_18 146 (dk_at dksX6_thrust_0 9 rfl rfl)
theorem dX6_thrust_11 : decode cX6_thrust 11 = .ok (.invokevirtual 75, 3) := dk_182 0 75 (dk_at dksX6_thrust_0 11 rfl rfl)
theorem dX6_thrust_14 : decode cX6_thrust 14 = .ok (.aload_n 0, 1) := dk_42 (dk_at dksX6_thrust_0 14 rfl rfl)
theorem dX6_thrust_15 : decode cX6_thrust 15 = .ok (.getstatic 91, 3) := dk_178 0 91 (dk_at dksX6_thrust_0 15 rfl rfl)
theorem dX6_thrust_18 : decode cX6_thrust 18 = .ok (.invokevirtual 86, 3) := dk_182 0 86 (dk_at dksX6_thrust_0 18 rfl rfl)
theorem dX6_thrust_21 : decode cX6_thrust 21 = .ok (.astore 4, 2) := dk_58 4 (dk_at dksX6_thrust_0 21 rfl rfl)
theorem dX6_thrust_23 : decode cX6_thrust 23 = .ok (.aload_n 0, 1) := dk_42 (dk_at dksX6_thrust_0 23 rfl rfl)
theorem dX6_thrust_24 : decode cX6_thrust 24 = .ok (.aload_n 2, 1) := dk_44 (dk_at dksX6_thrust_1 0 rfl rfl)
theorem dX6_thrust_25 : decode cX6_thrust 25 = .ok (.invokevirtual 75, 3) := dk_182 0 75 (dk_at dksX6_thrust_1 1 rfl rfl)
theorem dX6_thrust_28 : decode cX6_thrust 28 = .ok (.aload_n 0, 1) := dk_42 (dk_at dksX6_thrust_1 4 rfl rfl)
theorem dX6_thrust_29 : decode cX6_thrust 29 = .ok (.getstatic 91, 3) := dk_178 0 91 (dk_at dksX6_thrust_1 5 rfl rfl)
theorem dX6_thrust_32 : decode cX6_thrust 32 = .ok (.invokevirtual 86, 3) := dk_182 0 86 (dk_at dksX6_thrust_1 8 rfl rfl)
theorem dX6_thrust_35 : decode cX6_thrust 35 = .ok (.astore 5, 2) := dk_58 5 (dk_at dksX6_thrust_1 11 rfl rfl)
theorem dX6_thrust_37 : decode cX6_thrust 37 = .ok (.aload_n 0, 1) := dk_42 (dk_at dksX6_thrust_1 13 rfl rfl)
theorem dX6_thrust_38 : decode cX6_thrust 38 = .ok (.ldc 148, 2) := dk_18 148 (dk_at dksX6_thrust_1 14 rfl rfl)
theorem dX6_thrust_40 : decode cX6_thrust 40 = .ok (.invokevirtual 98, 3) := dk_182 0 98 (dk_at dksX6_thrust_1 16 rfl rfl)
theorem dX6_thrust_43 : decode cX6_thrust 43 = .ok (.astore 6, 2) := dk_58 6 (dk_at dksX6_thrust_1 19 rfl rfl)
theorem dX6_thrust_45 : decode cX6_thrust 45 = .ok (.aload_n 0, 1) := dk_42 (dk_at dksX6_thrust_1 21 rfl rfl)
theorem dX6_thrust_46 : decode cX6_thrust 46 = .ok (.ldc 150, 2) := dk_18 150 (dk_at dksX6_thrust_1 22 rfl rfl)
theorem dX6_thrust_48 : decode cX6_thrust 48 = .ok (.invokevirtual 41, 3) := dk_182 0 41 (dk_at dksX6_thrust_2 0 rfl rfl)
theorem dX6_thrust_51 : decode cX6_thrust 51 = .ok (.ifCond .eq 13, 3) := dk_153 0 13 (dk_at dksX6_thrust_2 3 rfl rfl)
theorem dX6_thrust_54 : decode cX6_thrust 54 = .ok (.aload_n 0, 1) := dk_42 (dk_at dksX6_thrust_2 6 rfl rfl)
theorem dX6_thrust_55 : decode cX6_thrust 55 = .ok (.invokevirtual 152, 3) := dk_182 0 152 (dk_at dksX6_thrust_2 7 rfl rfl)
theorem dX6_thrust_58 : decode cX6_thrust 58 = .ok (.invokestatic 156, 3) := dk_184 0 156 (dk_at dksX6_thrust_2 10 rfl rfl)
theorem dX6_thrust_61 : decode cX6_thrust 61 = .ok (.goto 6, 3) := dk_167 0 6 (dk_at dksX6_thrust_2 13 rfl rfl)
theorem dX6_thrust_64 : decode cX6_thrust 64 = .ok (.invokestatic 162, 3) := dk_184 0 162 (dk_at dksX6_thrust_2 16 rfl rfl)
theorem dX6_thrust_67 : decode cX6_thrust 67 = .ok (.astore 7, 2) := dk_58 7 (dk_at dksX6_thrust_2 19 rfl rfl)
theorem dX6_thrust_69 : decode cX6_thrust 69 = .ok (.new 166, 3) := dk_187 0 166 (dk_at dksX6_thrust_2 21 rfl rfl)
theorem dX6_thrust_72 : decode cX6_thrust 72 = .ok (.dup, 1) := dk_89 (dk_at dksX6_thrust_3 0 rfl rfl)
theorem dX6_thrust_73 : decode cX6_thrust 73 = .ok (.aload_n 1, 1) := dk_43 (dk_at dksX6_thrust_3 1 rfl rfl)
theorem dX6_thrust_74 : decode cX6_thrust 74 = .ok (.aload_n 3, 1) := dk_45 (dk_at dksX6_thrust_3 2 rfl rfl)
theorem dX6_thrust_75 : decode cX6_thrust 75 = .ok (.aload 4, 2) := dk_25 4 (dk_at dksX6_thrust_3 3 rfl rfl)
theorem dX6_thrust_77 : decode cX6_thrust 77 = .ok (.aload 5, 2) := dk_25 5 (dk_at dksX6_thrust_3 5 rfl rfl)
theorem dX6_thrust_79 : decode cX6_thrust 79 = .ok (.aload 6, 2) := dk_25 6 (dk_at dksX6_thrust_3 7 rfl rfl)
theorem dX6_thrust_81 : decode cX6_thrust 81 = .ok (.aload 7, 2) := dk_25 7 (dk_at dksX6_thrust_3 9 rfl rfl)
theorem dX6_thrust_83 : decode cX6_thrust 83 = .ok (.invokespecial 168, 3) := dk_183 0 168 (dk_at dksX6_thrust_3 11 rfl rfl)
theorem dX6_thrust_86 : decode cX6_thrust 86 = .ok (.areturn, 1) := dk_176 (dk_at dksX6_thrust_3 14 rfl rfl)
theorem q947 : (Jvm.Cond.code ({ cls := "DebateHall$Reader", name := "numberIf", desc := "(Ljava/lang/String;)LDebateHall$Token;" } : Jvm.MethodName) prog_13_method_9_code (2 : Nat) (Option.some (Jvm.ClassFile.FieldType.object "DebateHall$Token"))) ∈ lw_all := lw_g (lw_at lw_m4 147 rfl) rfl
theorem zk_X6_numberIf : zz_cd yX6_numberIf cX6_numberIf 2 (some (.object "DebateHall$Token")) none ∈ lw_all := q947
theorem zy_X6_numberIf : zz_yok yX6_numberIf 1 = true := by decide +kernel
theorem q1088 : (Jvm.Cond.code ({ cls := "java/util/Optional", name := "empty", desc := "()Ljava/util/Optional;" } : Jvm.MethodName) prog_72_method_1_code (1 : Nat) (Option.some (Jvm.ClassFile.FieldType.object "java/util/Optional"))) ∈ lw_all := lw_g (lw_at lw_m5 48 rfl) rfl
theorem zk_J23_empty : zz_cd yJ23_empty cJ23_empty 1 (some (.object "java/util/Optional")) none ∈ lw_all := q1088
theorem zy_J23_empty : zz_yok yJ23_empty 0 = true := by decide +kernel
theorem q1086 : (Jvm.Cond.methodLink "DebateHall$Reader" (162 : Nat) ({ cls := "java/util/Optional", name := "empty", desc := "()Ljava/util/Optional;" } : Jvm.MethodName)) ∈ lw_all := lw_g (lw_at lw_m5 46 rfl) rfl
theorem q1087 : (Jvm.Cond.static ({ cls := "java/util/Optional", name := "empty", desc := "()Ljava/util/Optional;" } : Jvm.MethodName)) ∈ lw_all := lw_g (lw_at lw_m5 47 rfl) rfl
theorem q1072 : (Jvm.Cond.code ({ cls := "java/util/Optional", name := "of", desc := "(Ljava/lang/Object;)Ljava/util/Optional;" } : Jvm.MethodName) prog_72_method_3_code (1 : Nat) (Option.some (Jvm.ClassFile.FieldType.object "java/util/Optional"))) ∈ lw_all := lw_g (lw_at lw_m5 32 rfl) rfl
theorem zk_J23_of : zz_cd yJ23_of cJ23_of 1 (some (.object "java/util/Optional")) none ∈ lw_all := q1072
theorem zy_J23_of : zz_yok yJ23_of 1 = true := by decide +kernel
theorem q1070 : (Jvm.Cond.methodLink "DebateHall$Reader" (156 : Nat) ({ cls := "java/util/Optional", name := "of", desc := "(Ljava/lang/Object;)Ljava/util/Optional;" } : Jvm.MethodName)) ∈ lw_all := lw_g (lw_at lw_m5 30 rfl) rfl
theorem q1071 : (Jvm.Cond.static ({ cls := "java/util/Optional", name := "of", desc := "(Ljava/lang/Object;)Ljava/util/Optional;" } : Jvm.MethodName)) ∈ lw_all := lw_g (lw_at lw_m5 31 rfl) rfl
theorem q944 : (Jvm.Cond.methodLink "DebateHall$Reader" (98 : Nat) ({ cls := "DebateHall$Reader", name := "numberIf", desc := "(Ljava/lang/String;)LDebateHall$Token;" } : Jvm.MethodName)) ∈ lw_all := lw_g (lw_at lw_m4 144 rfl) rfl
theorem q946 : (Jvm.Cond.instanceMethod ({ cls := "DebateHall$Reader", name := "numberIf", desc := "(Ljava/lang/String;)LDebateHall$Token;" } : Jvm.MethodName)) ∈ lw_all := lw_g (lw_at lw_m4 146 rfl) rfl
theorem q1091 : (Jvm.Cond.classLink "DebateHall$Reader" (166 : Nat) "DebateHall$Thrust") ∈ lw_all := lw_g (lw_at lw_m5 51 rfl) rfl
theorem q125 : (Jvm.Cond.initialized "DebateHall$Thrust") ∈ lw_all := lw_g (lw_at lw_m1 45 rfl) rfl
theorem zl_DebateHall_Thrust : Cond.initialized "DebateHall$Thrust" ∈ lw_all := q125
theorem q1095 : (Jvm.Cond.code ({ cls := "DebateHall$Thrust", name := "<init>", desc := "(LDebateHall$Kind;LDebateHall$Token;LDebateHall$Token;LDebateHall$Token;LDebateHall$Token;Ljava/util/Optional;)V" } : Jvm.MethodName) prog_21_method_1_code (7 : Nat) (Option.none : Option Jvm.ClassFile.FieldType)) ∈ lw_all := lw_g (lw_at lw_m5 55 rfl) rfl
theorem zk_X17_init : zz_cd yX17_init cX17_init 7 none none ∈ lw_all := q1095
theorem zy_X17_init : zz_yok yX17_init 6 = true := by decide +kernel
theorem q1093 : (Jvm.Cond.methodLink "DebateHall$Reader" (168 : Nat) ({ cls := "DebateHall$Thrust", name := "<init>", desc := "(LDebateHall$Kind;LDebateHall$Token;LDebateHall$Token;LDebateHall$Token;LDebateHall$Token;Ljava/util/Optional;)V" } : Jvm.MethodName)) ∈ lw_all := lw_g (lw_at lw_m5 53 rfl) rfl
theorem q1094 : (Jvm.Cond.instanceMethod ({ cls := "DebateHall$Thrust", name := "<init>", desc := "(LDebateHall$Kind;LDebateHall$Token;LDebateHall$Token;LDebateHall$Token;LDebateHall$Token;Ljava/util/Optional;)V" } : Jvm.MethodName)) ∈ lw_all := lw_g (lw_at lw_m5 54 rfl) rfl
def wp_X6_thrust_B67 (Z : zzG) (K : Option Value → zzM → Prop) (X : Nat → Nat → zzM → Prop) (v1 : Option Nat) (v3 : Option Nat) (v4 : Option Nat) (v5 : Option Nat) (v6 : Option Nat) (s0 : Option Nat) (M : zzM) (bc bs : Nat) : Prop := znew Z M bc bs 12 7 [.null, .null, .null, .null, .null, .null, .null] fun q77 M78 bc79 bs80 => wp_X17_init Z (some q77) v1 v3 v4 v5 v6 s0 M78 (fun r81 M82 => zrV r81 (K (some (va_rf (some q77))) M82))
def wp_X6_thrust (Z : zzG) (this : Option Nat) (p0 : Option Nat) (p1 : Option Nat) (M : zzM) (bc bs : Nat) (K : Option Value → zzM → Prop) (X : Nat → Nat → zzM → Prop) : Prop := zty Z M this fun t => t = 3 ∧ zcx bc bs (fun c s k x => wp_X6_take Z this (some (zz_ad Z 1)) M c s k x) (fun r1 M2 bc3 bs4 => zrA r1 fun x5 => zty Z M2 this fun t => t = 3 ∧ zcx bc3 bs4 (fun c s k x => wp_X6_take_2 Z this (some (zz_ad Z 135)) M2 c s k x) (fun r6 M7 bc8 bs9 => zrV r6 (zty Z M7 this fun t => t = 3 ∧ zcx bc8 bs9 (fun c s k x => wp_X6_take Z this (some (zz_ad Z 1)) M7 c s k x) (fun r10 M11 bc12 bs13 => zrA r10 fun x14 => zty Z M11 this fun t => t = 3 ∧ zcx bc12 bs13 (fun c s k x => wp_X6_take_2 Z this p1 M11 c s k x) (fun r15 M16 bc17 bs18 => zrV r15 (zty Z M16 this fun t => t = 3 ∧ zcx bc17 bs18 (fun c s k x => wp_X6_take Z this (some (zz_ad Z 1)) M16 c s k x) (fun r19 M20 bc21 bs22 => zrA r19 fun x23 => zty Z M20 this fun t => t = 3 ∧ zcx bc21 bs22 (fun c s k x => wp_X6_numberIf Z this (some (zz_ad Z 132)) M20 c s k x) (fun r24 M25 bc26 bs27 => zrA r24 fun x28 => zty Z M25 this fun t => t = 3 ∧ wp_X6_takeIf Z this (some (zz_ad Z 139)) M25 (fun r29 M30 => zrI r29 fun x33 => if x33 = 0 then (wp_J23_empty Z  M30 (fun r34 M35 => zrA r34 fun x38 => wp_X6_thrust_B67 Z K X p0 x5 x14 x23 x28 x38 M35 bc26 bs27)) else (zty Z M30 this fun t => t = 3 ∧ zcx bc26 bs27 (fun c s k x => wp_X6_test Z this M30 c s k x) (fun r39 M40 bc41 bs42 => zrA r39 fun x43 => zcc bc41 bs42 (fun c s k => wp_J23_of Z x43 M40 c s k) fun r44 M45 bc46 bs47 => zrA r44 fun x48 => wp_X6_thrust_B67 Z K X p0 x5 x14 x23 x28 x48 M45 bc46 bs47) (fun t q M _ _ => X t q M)))) (fun t q M _ _ => X t q M)) (fun t q M _ _ => X t q M))) (fun t q M _ _ => X t q M)) (fun t q M _ _ => X t q M))) (fun t q M _ _ => X t q M)) (fun t q M _ _ => X t q M)
theorem ok_X6_thrust_B67 {G : zzX} (C : zz_C G cX6_thrust "DebateHall$Reader" 8) {K : Option Value → zzM → Prop} {X : Nat → Nat → zzM → Prop} (E : zz_E G (some (.object "DebateHall$Line")) K X) (hH : zz_H G []) (hR : zz_Rm G 70) {v1 : Option Nat} {v3 : Option Nat} {v4 : Option Nat} {v5 : Option Nat} {v6 : Option Nat} {s0 : Option Nat} {M : zzM} {bc bs : Nat} (hw : wp_X6_thrust_B67 (zz_Zof G) K X v1 v3 v4 v5 v6 s0 M bc bs) : zz_T G 8 M bc bs 67 [(1, va_rf v1), (3, va_rf v3), (4, va_rf v4), (5, va_rf v5), (6, va_rf v6)] [va_rf s0] := by
  unfold wp_X6_thrust_B67 at hw
  refine zz_astore (lv' := [(7, va_rf s0), (1, va_rf v1), (3, va_rf v3), (4, va_rf v4), (5, va_rf v5), (6, va_rf v6)]) C dX6_thrust_67 (by decide) (by simp [zz_cat, zz_catI, zz_catJ, zz_catD]) ?_
  refine zz_new (r := (zR_12, zT_12, 7)) C dX6_thrust_69 rfl (by decide) q1091 q1092 zl_DebateHall_Thrust rfl hw (fun q77 M78 bc79 bs80 hw => ?_)
  refine zz_dup C dX6_thrust_72 (zz_cat _) ?_
  refine zz_aload_n C dX6_thrust_73 rfl 1 rfl ?_
  refine zz_aload_n C dX6_thrust_74 rfl 2 rfl ?_
  refine zz_aload C dX6_thrust_75 3 rfl ?_
  refine zz_aload C dX6_thrust_77 4 rfl ?_
  refine zz_aload C dX6_thrust_79 5 rfl ?_
  refine zz_aload C dX6_thrust_81 0 rfl ?_
  refine zz_callI (As := [va_rf v1, va_rf v3, va_rf v4, va_rf v5, va_rf v6, va_rf s0]) (rest := [va_rf (some q77)]) (mc := 0) (ms := 0) C hR rfl dX6_thrust_83 (Or.inl q1093) q1094 zl_DebateHall_Thrust zk_X17_init rfl zy_X17_init (by decide) (by decide) (ok_X17_init (zz_hl C) hw) (Nat.zero_le _) (Nat.zero_le _) (zz_cat10 _ (Nat.le_of_ble_eq_true rfl)) (fun r81 M82 hw => zz_kV hw (fun hw => ?_)) (fun _ _ _ h9 => h9.elim) rfl
  exact zz_aret C E (Or.inl ⟨_, rfl⟩) dX6_thrust_86 hw
theorem ok_X6_thrust {Z : zzG} {l : Launch} (hl : l.stackTraces = false) {this : Option Nat} {p0 : Option Nat} {p1 : Option Nat} {M : zzM} {mc ms : Nat} {K : Option Value → zzM → Prop} {X : Nat → Nat → zzM → Prop} (hw : wp_X6_thrust Z this p0 p1 M mc ms K X) : zz_Met Z l yX6_thrust (zz_ws yX6_thrust cX6_thrust 8 (some (.object "DebateHall$Line")) none) 70 [va_rf this, va_rf p0, va_rf p1] M mc ms K X := by
  refine zz_ofW hl (plainFor_of_name (by decide)) (by simp only [zz_sl0, zz_slI, zz_slJ, zz_slA] <;> decide) (fun G hZ hll C E hH hR hin => ?_)
  subst hZ
  subst hll
  rw [show lv_args 0 [va_rf this, va_rf p0, va_rf p1] = [(0, va_rf this), (1, va_rf p0), (2, va_rf p1)] by simp only [zz_la0, zz_laI, zz_laJ, zz_laA]]
  unfold wp_X6_thrust at hw
  refine zz_aload_n C dX6_thrust_0 rfl 0 rfl ?_
  refine zz_gets (j := 1) (v := va_rf (some (zz_ad (zz_Zof G) 1))) C dX6_thrust_1 (Or.inl q906) rfl (Or.inl rfl) rfl ?_
  obtain ⟨a9, t9, b9, fs9, hro, hL, rfl, hw⟩ := ztyS hw
  obtain ⟨c9, s9, hc9, hs9, hw⟩ := hw
  refine zz_callV (r := (zR_3, zT_3, 3)) (As := [va_rf (some (zz_ad (zz_Zof G) 1))]) (rest := []) C hR hro dX6_thrust_4 (Or.inl q907) q909 (Or.inl qs8) zl_DebateHall_Reader zk_X6_take (Or.inl rfl) zy_X6_take rfl (by decide) (by decide) hL (ok_X6_take (zz_hl C) hw) hc9 hs9 (zz_cat10 _ (Nat.le_of_ble_eq_true rfl)) (fun r1 M2 hw => zz_kA hw (fun x5 hw => ?_)) (fun t9 q73 M74 hx => ?_) rfl
  · refine zz_astore_n (i := 3) (lv' := [(3, va_rf x5), (0, va_rf this), (1, va_rf p0), (2, va_rf p1)]) C dX6_thrust_7 rfl (by decide) (by simp [zz_cat, zz_catI, zz_catJ, zz_catD]) ?_
    refine zz_aload_n C dX6_thrust_8 rfl 1 rfl ?_
    refine zz_ldcS (j := 35) C dX6_thrust_9 rfl ?_
    obtain ⟨a9, t9, b9, fs9, hro, hL, rfl, hw⟩ := ztyS hw
    obtain ⟨c9, s9, hc9, hs9, hw⟩ := hw
    refine zz_callV (r := (zR_3, zT_3, 3)) (As := [va_rf (some (zz_ad (zz_Zof G) 135))]) (rest := []) C hR hro dX6_thrust_11 (Or.inl q969) q971 (Or.inl qs11) zl_DebateHall_Reader zk_X6_take_2 (Or.inl rfl) zy_X6_take_2 rfl (by decide) (by decide) hL (ok_X6_take_2 (zz_hl C) hw) hc9 hs9 (zz_cat10 _ (Nat.le_of_ble_eq_true rfl)) (fun r6 M7 hw => zz_kV hw (fun hw => ?_)) (fun t9 q69 M70 hx => ?_) rfl
    · refine zz_aload_n C dX6_thrust_14 rfl 1 rfl ?_
      refine zz_gets (j := 1) (v := va_rf (some (zz_ad (zz_Zof G) 1))) C dX6_thrust_15 (Or.inl q906) rfl (Or.inl rfl) rfl ?_
      obtain ⟨a9, t9, b9, fs9, hro, hL, rfl, hw⟩ := ztyS hw
      obtain ⟨c9, s9, hc9, hs9, hw⟩ := hw
      refine zz_callV (r := (zR_3, zT_3, 3)) (As := [va_rf (some (zz_ad (zz_Zof G) 1))]) (rest := []) C hR hro dX6_thrust_18 (Or.inl q907) q909 (Or.inl qs8) zl_DebateHall_Reader zk_X6_take (Or.inl rfl) zy_X6_take rfl (by decide) (by decide) hL (ok_X6_take (zz_hl C) hw) hc9 hs9 (zz_cat10 _ (Nat.le_of_ble_eq_true rfl)) (fun r10 M11 hw => zz_kA hw (fun x14 hw => ?_)) (fun t9 q65 M66 hx => ?_) rfl
      · refine zz_astore (lv' := [(4, va_rf x14), (3, va_rf x5), (0, va_rf this), (1, va_rf p0), (2, va_rf p1)]) C dX6_thrust_21 (by decide) (by simp [zz_cat, zz_catI, zz_catJ, zz_catD]) ?_
        refine zz_aload_n C dX6_thrust_23 rfl 2 rfl ?_
        refine zz_aload_n C dX6_thrust_24 rfl 4 rfl ?_
        obtain ⟨a9, t9, b9, fs9, hro, hL, rfl, hw⟩ := ztyS hw
        obtain ⟨c9, s9, hc9, hs9, hw⟩ := hw
        refine zz_callV (r := (zR_3, zT_3, 3)) (As := [va_rf p1]) (rest := []) C hR hro dX6_thrust_25 (Or.inl q969) q971 (Or.inl qs11) zl_DebateHall_Reader zk_X6_take_2 (Or.inl rfl) zy_X6_take_2 rfl (by decide) (by decide) hL (ok_X6_take_2 (zz_hl C) hw) hc9 hs9 (zz_cat10 _ (Nat.le_of_ble_eq_true rfl)) (fun r15 M16 hw => zz_kV hw (fun hw => ?_)) (fun t9 q61 M62 hx => ?_) rfl
        · refine zz_aload_n C dX6_thrust_28 rfl 2 rfl ?_
          refine zz_gets (j := 1) (v := va_rf (some (zz_ad (zz_Zof G) 1))) C dX6_thrust_29 (Or.inl q906) rfl (Or.inl rfl) rfl ?_
          obtain ⟨a9, t9, b9, fs9, hro, hL, rfl, hw⟩ := ztyS hw
          obtain ⟨c9, s9, hc9, hs9, hw⟩ := hw
          refine zz_callV (r := (zR_3, zT_3, 3)) (As := [va_rf (some (zz_ad (zz_Zof G) 1))]) (rest := []) C hR hro dX6_thrust_32 (Or.inl q907) q909 (Or.inl qs8) zl_DebateHall_Reader zk_X6_take (Or.inl rfl) zy_X6_take rfl (by decide) (by decide) hL (ok_X6_take (zz_hl C) hw) hc9 hs9 (zz_cat10 _ (Nat.le_of_ble_eq_true rfl)) (fun r19 M20 hw => zz_kA hw (fun x23 hw => ?_)) (fun t9 q57 M58 hx => ?_) rfl
          · refine zz_astore (lv' := [(5, va_rf x23), (4, va_rf x14), (3, va_rf x5), (0, va_rf this), (1, va_rf p0), (2, va_rf p1)]) C dX6_thrust_35 (by decide) (by simp [zz_cat, zz_catI, zz_catJ, zz_catD]) ?_
            refine zz_aload_n C dX6_thrust_37 rfl 3 rfl ?_
            refine zz_ldcS (j := 32) C dX6_thrust_38 rfl ?_
            obtain ⟨a9, t9, b9, fs9, hro, hL, rfl, hw⟩ := ztyS hw
            obtain ⟨c9, s9, hc9, hs9, hw⟩ := hw
            refine zz_callV (r := (zR_3, zT_3, 3)) (As := [va_rf (some (zz_ad (zz_Zof G) 132))]) (rest := []) C hR hro dX6_thrust_40 (Or.inl q944) q946 (Or.inl qs10) zl_DebateHall_Reader zk_X6_numberIf (Or.inl rfl) zy_X6_numberIf rfl (by decide) (by decide) hL (ok_X6_numberIf (zz_hl C) hw) hc9 hs9 (zz_cat10 _ (Nat.le_of_ble_eq_true rfl)) (fun r24 M25 hw => zz_kA hw (fun x28 hw => ?_)) (fun t9 q53 M54 hx => ?_) rfl
            · refine zz_astore (lv' := [(6, va_rf x28), (5, va_rf x23), (4, va_rf x14), (3, va_rf x5), (0, va_rf this), (1, va_rf p0), (2, va_rf p1)]) C dX6_thrust_43 (by decide) (by simp [zz_cat, zz_catI, zz_catJ, zz_catD]) ?_
              refine zz_aload_n C dX6_thrust_45 rfl 4 rfl ?_
              refine zz_ldcS (j := 39) C dX6_thrust_46 rfl ?_
              obtain ⟨a9, t9, b9, fs9, hro, hL, rfl, hw⟩ := ztyS hw
              refine zz_callV (r := (zR_3, zT_3, 3)) (As := [va_rf (some (zz_ad (zz_Zof G) 139))]) (rest := []) (mc := 0) (ms := 0) C hR hro dX6_thrust_48 (Or.inl q895) q897 (Or.inl qs7) zl_DebateHall_Reader zk_X6_takeIf (Or.inl rfl) zy_X6_takeIf rfl (by decide) (by decide) hL (ok_X6_takeIf (zz_hl C) hw) (Nat.zero_le _) (Nat.zero_le _) (zz_cat10 _ (Nat.le_of_ble_eq_true rfl)) (fun r29 M30 hw => zz_kI hw (fun x33 hw => ?_)) (fun _ _ _ h9 => h9.elim) rfl
              refine zz_if_eq (tgt := 64) C dX6_thrust_51 (by decide) hw (fun hw => ?_) (fun hw => ?_)
              · refine zz_callS (As := []) (rest := []) (mc := 0) (ms := 0) C hR dX6_thrust_64 (Or.inl q1086) q1087 zl_java_util_Optional zk_J23_empty (Or.inl rfl) zy_J23_empty (by decide) (by decide) (ok_J23_empty (zz_hl C) hw) (Nat.zero_le _) (Nat.zero_le _) (zz_cat10 _ (Nat.le_of_ble_eq_true rfl)) (fun r34 M35 hw => zz_kA hw (fun x38 hw => ?_)) (fun _ _ _ h9 => h9.elim) rfl
                refine zz_subP [5, 3, 2, 1, 0] rfl ?_
                exact ok_X6_thrust_B67 C E hH hR hw
              · refine zz_aload_n C dX6_thrust_54 rfl 4 rfl ?_
                obtain ⟨a9, t9, b9, fs9, hro, hL, rfl, hw⟩ := ztyS hw
                obtain ⟨c9, s9, hc9, hs9, hw⟩ := hw
                refine zz_callV (r := (zR_3, zT_3, 3)) (As := []) (rest := []) C hR hro dX6_thrust_55 (Or.inl q1002) q1004 (Or.inl qs13) zl_DebateHall_Reader zk_X6_test (Or.inl rfl) zy_X6_test rfl (by decide) (by decide) hL (ok_X6_test (zz_hl C) hw) hc9 hs9 (zz_cat10 _ (Nat.le_of_ble_eq_true rfl)) (fun r39 M40 hw => zz_kA hw (fun x43 hw => ?_)) (fun t9 q49 M50 hx => ?_) rfl
                · obtain ⟨c9, s9, hc9, hs9, hw⟩ := hw
                  refine zz_callS (As := [va_rf x43]) (rest := []) C hR dX6_thrust_58 (Or.inl q1070) q1071 zl_java_util_Optional zk_J23_of (Or.inl rfl) zy_J23_of (by decide) (by decide) (ok_J23_of (zz_hl C) hw) hc9 hs9 (zz_cat10 _ (Nat.le_of_ble_eq_true rfl)) (fun r44 M45 hw => zz_kA hw (fun x48 hw => ?_)) (fun _ _ _ h9 => h9.elim) rfl
                  refine zz_goto (tgt := 67) C dX6_thrust_61 (by decide) ?_
                  refine zz_subP [5, 3, 2, 1, 0] rfl ?_
                  exact ok_X6_thrust_B67 C E hH hR hw
                · exact zz_out C E hH rfl hx
            · exact zz_out C E hH rfl hx
          · exact zz_out C E hH rfl hx
        · exact zz_out C E hH rfl hx
      · exact zz_out C E hH rfl hx
    · exact zz_out C E hH rfl hx
  · exact zz_out C E hH rfl hx
abbrev cX18_init : ByteArray := prog_23_method_1_code
def yX18_init : MethodName := ⟨"DebateHall$Turn", "<init>", "(LDebateHall$Token;Z)V"⟩
def dkwX18_init_0 : List UInt8 := [42, 183, 0, 1, 42, 43, 181, 0, 7, 42, 28, 181, 0, 13, 177]
abbrev dktX18_init_0 : List UInt8 := dkwX18_init_0 ++ []
theorem dksX18_init_0 : cX18_init.data.toList.drop 0 = dktX18_init_0 := by decide +kernel
theorem dX18_init_0 : decode cX18_init 0 = .ok (.aload_n 0, 1) := dk_42 (dk_at dksX18_init_0 0 rfl rfl)
theorem dX18_init_1 : decode cX18_init 1 = .ok (.invokespecial 1, 3) := dk_183 0 1 (dk_at dksX18_init_0 1 rfl rfl)
theorem dX18_init_4 : decode cX18_init 4 = .ok (.aload_n 0, 1) := dk_42 (dk_at dksX18_init_0 4 rfl rfl)
theorem dX18_init_5 : decode cX18_init 5 = .ok (.aload_n 1, 1) := dk_43 (dk_at dksX18_init_0 5 rfl rfl)
theorem dX18_init_6 : decode cX18_init 6 = .ok (.putfield 7, 3) := dk_181 0 7 (dk_at dksX18_init_0 6 rfl rfl)
theorem dX18_init_9 : decode cX18_init 9 = .ok (.aload_n 0, 1) := dk_42 (dk_at dksX18_init_0 9 rfl rfl)
theorem dX18_init_10 : decode cX18_init 10 = .ok (.iload_n 2, 1) := dk_28 (dk_at dksX18_init_0 10 rfl rfl)
theorem dX18_init_11 : decode cX18_init 11 = .ok (.putfield 13, 3) := dk_181 0 13 (dk_at dksX18_init_0 11 rfl rfl)
theorem dX18_init_14 : decode cX18_init 14 = .ok (.return_, 1) := dk_177 (dk_at dksX18_init_0 14 rfl rfl)
theorem zf_13_1_ebateHall_Turn : zz_fok [13] 1 "DebateHall$Turn" "name" "LDebateHall$Token;" := zz_fok1 (zR_13, zT_13, 3) rfl (by decide) rfl rfl (Or.inl rfl)
theorem q1128 : (Jvm.Cond.fieldLink "DebateHall$Turn" (7 : Nat) "DebateHall$Turn" "name" "LDebateHall$Token;") ∈ lw_all := lw_g (lw_at lw_m5 88 rfl) rfl
theorem zq_13_1 : zz_pokF [13] 1 "DebateHall$Turn" := zz_pokF1 (zR_13, zT_13, 3) (by decide) rfl rfl rfl
theorem zf_13_2_ebateHall_Turn : zz_fok [13] 2 "DebateHall$Turn" "concedes" "Z" := zz_fok1 (zR_13, zT_13, 3) rfl (by decide) rfl rfl (Or.inl rfl)
theorem q1129 : (Jvm.Cond.fieldLink "DebateHall$Turn" (13 : Nat) "DebateHall$Turn" "concedes" "Z") ∈ lw_all := lw_g (lw_at lw_m5 89 rfl) rfl
theorem zq_13_2 : zz_pokF [13] 2 "DebateHall$Turn" := zz_pokF1 (zR_13, zT_13, 3) (by decide) rfl rfl rfl
theorem q1127 : (Jvm.Cond.methodLinkNest "DebateHall$Turn" (1 : Nat) ({ cls := "DebateHall$Line", name := "<init>", desc := "()V" } : Jvm.MethodName) "DebateHall") ∈ lw_tbl := lw_at lw_m5 87 rfl
def wp_X18_init (Z : zzG) (this : Option Nat) (p0 : Option Nat) (p1 : Int32) (M : zzM) (K : Option Value → zzM → Prop) : Prop := zty Z M this fun _ => wp_X10_init Z this M (fun r1 M2 => zrV r1 (zput Z M2 this [13] 1 (va_rf p0) fun M5 => zfit .boolean p1 ∧ zput Z M5 this [13] 2 (.int p1) fun M6 => K none M6))
theorem ok_X18_init {Z : zzG} {l : Launch} (hl : l.stackTraces = false) {this : Option Nat} {p0 : Option Nat} {p1 : Int32} {M : zzM} {mc ms : Nat} {K : Option Value → zzM → Prop} (hw : wp_X18_init Z this p0 p1 M K) : zz_Met Z l yX18_init (zz_ws yX18_init cX18_init 3 none none) 3 [va_rf this, va_rf p0, .int p1] M mc ms K (fun _ _ _ => False) := by
  refine zz_ofW hl (plainFor_of_name (by decide)) (by simp only [zz_sl0, zz_slI, zz_slJ, zz_slA] <;> decide) (fun G hZ hll C E hH hR hin => ?_)
  subst hZ
  subst hll
  rw [show lv_args 0 [va_rf this, va_rf p0, .int p1] = [(0, va_rf this), (1, va_rf p0), (2, .int p1)] by simp only [zz_la0, zz_laI, zz_laJ, zz_laA]]
  unfold wp_X18_init at hw
  refine zz_aload_n C dX18_init_0 rfl 0 rfl ?_
  obtain ⟨a9, t9, b9, fs9, hro, hL, hw⟩ := ztyS hw
  refine zz_callI (As := []) (rest := []) (mc := 0) (ms := 0) C hR hro dX18_init_1 (Or.inr ⟨_, q1127⟩) q953 zl_DebateHall_Line zk_X10_init rfl zy_X10_init (by decide) (by decide) (ok_X10_init (zz_hl C) hw) (Nat.zero_le _) (Nat.zero_le _) (zz_cat10 _ (Nat.le_of_ble_eq_true rfl)) (fun r1 M2 hw => zz_kV hw (fun hw => ?_)) (fun _ _ _ h9 => h9.elim) rfl
  refine zz_aload_n C dX18_init_4 rfl 0 rfl ?_
  refine zz_aload_n C dX18_init_5 rfl 1 rfl ?_
  refine zz_putF C hin dX18_init_6 q1128 zf_13_1_ebateHall_Turn zq_13_1 (zz_hn1 (zz_nA _ rfl p0)) hw (fun M5 hw => ?_)
  refine zz_aload_n C dX18_init_9 rfl 0 rfl ?_
  refine zz_iload_n C dX18_init_10 rfl 2 rfl ?_
  obtain ⟨hfit, hw⟩ := hw
  refine zz_putF C hin dX18_init_11 q1129 zf_13_2_ebateHall_Turn zq_13_2 (zz_hn1 hfit) hw (fun M6 hw => ?_)
  exact zz_vret C E dX18_init_14 hw
abbrev cX6_line : ByteArray := prog_13_method_10_code
def yX6_line : MethodName := ⟨"DebateHall$Reader", "line", "()LDebateHall$Line;"⟩
def dkwX6_line_7 : List UInt8 := [183, 0, 141, 176]
abbrev dktX6_line_7 : List UInt8 := dkwX6_line_7 ++ []
def dkwX6_line_6 : List UInt8 := [183, 0, 141, 176, 42, 18, 144, 182, 0, 75, 187, 0, 139, 89, 42, 178, 0, 91, 182, 0, 86, 3]
abbrev dktX6_line_6 : List UInt8 := dkwX6_line_6 ++ dktX6_line_7
def dkwX6_line_5 : List UInt8 := [176, 42, 18, 137, 182, 0, 41, 153, 0, 19, 187, 0, 139, 89, 42, 178, 0, 91, 182, 0, 86, 4]
abbrev dktX6_line_5 : List UInt8 := dkwX6_line_5 ++ dktX6_line_6
def dkwX6_line_4 : List UInt8 := [18, 124, 182, 0, 126, 176, 42, 18, 130, 182, 0, 41, 153, 0, 13, 42, 178, 0, 132, 18, 135, 182, 0, 126]
abbrev dktX6_line_4 : List UInt8 := dkwX6_line_4 ++ dktX6_line_5
def dkwX6_line_3 : List UInt8 := [42, 18, 111, 182, 0, 98, 183, 0, 113, 176, 42, 18, 116, 182, 0, 41, 153, 0, 13, 42, 178, 0, 118]
abbrev dktX6_line_3 : List UInt8 := dkwX6_line_3 ++ dktX6_line_4
def dkwX6_line_2 : List UInt8 := [182, 0, 86, 76, 42, 18, 107, 182, 0, 75, 42, 178, 0, 91, 182, 0, 86, 77, 187, 0, 109, 89, 43, 44]
abbrev dktX6_line_2 : List UInt8 := dkwX6_line_2 ++ dktX6_line_3
def dkwX6_line_1 : List UInt8 := [18, 96, 182, 0, 98, 183, 0, 102, 176, 42, 18, 105, 182, 0, 41, 153, 0, 41, 42, 178, 0, 91]
abbrev dktX6_line_1 : List UInt8 := dkwX6_line_1 ++ dktX6_line_2
def dkwX6_line_0 : List UInt8 := [42, 18, 89, 182, 0, 41, 153, 0, 26, 42, 178, 0, 91, 182, 0, 86, 76, 187, 0, 94, 89, 43, 42]
abbrev dktX6_line_0 : List UInt8 := dkwX6_line_0 ++ dktX6_line_1
theorem dksX6_line_0 : cX6_line.data.toList.drop 0 = dktX6_line_0 := by decide +kernel
theorem dksX6_line_1 : cX6_line.data.toList.drop 23 = dktX6_line_1 := dk_seg dksX6_line_0 23 rfl rfl
theorem dksX6_line_2 : cX6_line.data.toList.drop 45 = dktX6_line_2 := dk_seg dksX6_line_1 22 rfl rfl
theorem dksX6_line_3 : cX6_line.data.toList.drop 69 = dktX6_line_3 := dk_seg dksX6_line_2 24 rfl rfl
theorem dksX6_line_4 : cX6_line.data.toList.drop 92 = dktX6_line_4 := dk_seg dksX6_line_3 23 rfl rfl
theorem dksX6_line_5 : cX6_line.data.toList.drop 116 = dktX6_line_5 := dk_seg dksX6_line_4 24 rfl rfl
theorem dksX6_line_6 : cX6_line.data.toList.drop 138 = dktX6_line_6 := dk_seg dksX6_line_5 22 rfl rfl
theorem dksX6_line_7 : cX6_line.data.toList.drop 160 = dktX6_line_7 := dk_seg dksX6_line_6 22 rfl rfl
theorem dX6_line_0 : decode cX6_line 0 = .ok (.aload_n 0, 1) := dk_42 (dk_at dksX6_line_0 0 rfl rfl)
theorem dX6_line_1 : decode cX6_line 1 = .ok (.ldc 89, 2) := dk_18 89 (dk_at dksX6_line_0 1 rfl rfl)
theorem dX6_line_3 : decode cX6_line 3 = .ok (.invokevirtual 41, 3) := dk_182 0 41 (dk_at dksX6_line_0 3 rfl rfl)
theorem dX6_line_6 : decode cX6_line 6 = .ok (.ifCond .eq 26, 3) := dk_153 0 26 (dk_at dksX6_line_0 6 rfl rfl)
theorem dX6_line_9 : decode cX6_line 9 = .ok (.aload_n 0, 1) := dk_42 (dk_at dksX6_line_0 9 rfl rfl)
theorem dX6_line_10 : decode cX6_line 10 = .ok (.getstatic 91, 3) := dk_178 0 91 (dk_at dksX6_line_0 10 rfl rfl)
theorem dX6_line_13 : decode cX6_line 13 = .ok (.invokevirtual 86, 3) := dk_182 0 86 (dk_at dksX6_line_0 13 rfl rfl)
theorem dX6_line_16 : decode cX6_line 16 = .ok (.astore_n 1, 1) := dk_76 (dk_at dksX6_line_0 16 rfl rfl)
theorem dX6_line_17 : decode cX6_line 17 = .ok (.new 94, 3) := dk_187 0 94 (dk_at dksX6_line_0 17 rfl rfl)
theorem dX6_line_20 : decode cX6_line 20 = .ok (.dup, 1) := dk_89 (dk_at dksX6_line_0 20 rfl rfl)
theorem dX6_line_21 : decode cX6_line 21 = .ok (.aload_n 1, 1) := dk_43 (dk_at dksX6_line_0 21 rfl rfl)
theorem dX6_line_22 : decode cX6_line 22 = .ok (.aload_n 0, 1) := dk_42 (dk_at dksX6_line_0 22 rfl rfl)
theorem dX6_line_23 : decode cX6_line 23 = .ok (.ldc 96, 2) := dk_18 96 (dk_at dksX6_line_1 0 rfl rfl)
theorem dX6_line_25 : decode cX6_line 25 = .ok (.invokevirtual 98, 3) := dk_182 0 98 (dk_at dksX6_line_1 2 rfl rfl)
theorem dX6_line_28 : decode cX6_line 28 = .ok (.invokespecial 102, 3) := dk_183 0 102 (dk_at dksX6_line_1 5 rfl rfl)
theorem dX6_line_31 : decode cX6_line 31 = .ok (.areturn, 1) := dk_176 (dk_at dksX6_line_1 8 rfl rfl)
theorem dX6_line_32 : decode cX6_line 32 = .ok (.aload_n 0, 1) := dk_42 (dk_at dksX6_line_1 9 rfl rfl)
theorem dX6_line_33 : decode cX6_line 33 = .ok (.ldc 105, 2) := dk_18 105 (dk_at dksX6_line_1 10 rfl rfl)
theorem dX6_line_35 : decode cX6_line 35 = .ok (.invokevirtual 41, 3) := dk_182 0 41 (dk_at dksX6_line_1 12 rfl rfl)
theorem dX6_line_38 : decode cX6_line 38 = .ok (.ifCond .eq 41, 3) := dk_153 0 41 (dk_at dksX6_line_1 15 rfl rfl)
theorem dX6_line_41 : decode cX6_line 41 = .ok (.aload_n 0, 1) := dk_42 (dk_at dksX6_line_1 18 rfl rfl)
theorem dX6_line_42 : decode cX6_line 42 = .ok (.getstatic 91, 3) := dk_178 0 91 (dk_at dksX6_line_1 19 rfl rfl)
theorem dX6_line_45 : decode cX6_line 45 = .ok (.invokevirtual 86, 3) := dk_182 0 86 (dk_at dksX6_line_2 0 rfl rfl)
theorem dX6_line_48 : decode cX6_line 48 = .ok (.astore_n 1, 1) := dk_76 (dk_at dksX6_line_2 3 rfl rfl)
theorem dX6_line_49 : decode cX6_line 49 = .ok (.aload_n 0, 1) := dk_42 (dk_at dksX6_line_2 4 rfl rfl)
theorem dX6_line_50 : decode cX6_line 50 = .ok (.ldc 107, 2) := dk_18 107 (dk_at dksX6_line_2 5 rfl rfl)
theorem dX6_line_52 : decode cX6_line 52 = .ok (.invokevirtual 75, 3) := dk_182 0 75 (dk_at dksX6_line_2 7 rfl rfl)
theorem dX6_line_55 : decode cX6_line 55 = .ok (.aload_n 0, 1) := dk_42 (dk_at dksX6_line_2 10 rfl rfl)
theorem dX6_line_56 : decode cX6_line 56 = .ok (.getstatic 91, 3) := dk_178 0 91 (dk_at dksX6_line_2 11 rfl rfl)
theorem dX6_line_59 : decode cX6_line 59 = .ok (.invokevirtual 86, 3) := dk_182 0 86 (dk_at dksX6_line_2 14 rfl rfl)
theorem dX6_line_62 : decode cX6_line 62 = .ok (.astore_n 2, 1) := dk_77 (dk_at dksX6_line_2 17 rfl rfl)
theorem dX6_line_63 : decode cX6_line 63 = .ok (.new 109, 3) := dk_187 0 109 (dk_at dksX6_line_2 18 rfl rfl)
theorem dX6_line_66 : decode cX6_line 66 = .ok (.dup, 1) := dk_89 (dk_at dksX6_line_2 21 rfl rfl)
theorem dX6_line_67 : decode cX6_line 67 = .ok (.aload_n 1, 1) := dk_43 (dk_at dksX6_line_2 22 rfl rfl)
theorem dX6_line_68 : decode cX6_line 68 = .ok (.aload_n 2, 1) := dk_44 (dk_at dksX6_line_2 23 rfl rfl)
theorem dX6_line_69 : decode cX6_line 69 = .ok (.aload_n 0, 1) := dk_42 (dk_at dksX6_line_3 0 rfl rfl)
theorem dX6_line_70 : decode cX6_line 70 = .ok (.ldc 111, 2) := dk_18 111 (dk_at dksX6_line_3 1 rfl rfl)
theorem dX6_line_72 : decode cX6_line 72 = .ok (.invokevirtual 98, 3) := dk_182 0 98 (dk_at dksX6_line_3 3 rfl rfl)
theorem dX6_line_75 : decode cX6_line 75 = .ok (.invokespecial 113, 3) := dk_183 0 113 (dk_at dksX6_line_3 6 rfl rfl)
theorem dX6_line_78 : decode cX6_line 78 = .ok (.areturn, 1) := dk_176 (dk_at dksX6_line_3 9 rfl rfl)
theorem dX6_line_79 : decode cX6_line 79 = .ok (.aload_n 0, 1) := dk_42 (dk_at dksX6_line_3 10 rfl rfl)
theorem dX6_line_80 : decode cX6_line 80 = .ok (.ldc 116, 2) := dk_18 116 (dk_at dksX6_line_3 11 rfl rfl)
theorem dX6_line_82 : decode cX6_line 82 = .ok (.invokevirtual 41, 3) := dk_182 0 41 (dk_at dksX6_line_3 13 rfl rfl)
theorem dX6_line_85 : decode cX6_line 85 = .ok (.ifCond .eq 13, 3) := dk_153 0 13 (dk_at dksX6_line_3 16 rfl rfl)
theorem dX6_line_88 : decode cX6_line 88 = .ok (.aload_n 0, 1) := dk_42 (dk_at dksX6_line_3 19 rfl rfl)
theorem dX6_line_89 : decode cX6_line 89 = .ok (.getstatic 118, 3) := dk_178 0 118 (dk_at dksX6_line_3 20 rfl rfl)
theorem dX6_line_92 : decode cX6_line 92 = .ok (.ldc 124, 2) := dk_18 124 (dk_at dksX6_line_4 0 rfl rfl)
theorem dX6_line_94 : decode cX6_line 94 = .ok (.invokevirtual 126, 3) := dk_182 0 126 (dk_at dksX6_line_4 2 rfl rfl)
theorem dX6_line_97 : decode cX6_line 97 = .ok (.areturn, 1) := dk_176 (dk_at dksX6_line_4 5 rfl rfl)
theorem dX6_line_98 : decode cX6_line 98 = .ok (.aload_n 0, 1) := dk_42 (dk_at dksX6_line_4 6 rfl rfl)
theorem dX6_line_99 : decode cX6_line 99 = .ok (.ldc 130, 2) := dk_18 130 (dk_at dksX6_line_4 7 rfl rfl)
theorem dX6_line_101 : decode cX6_line 101 = .ok (.invokevirtual 41, 3) := dk_182 0 41 (dk_at dksX6_line_4 9 rfl rfl)
theorem dX6_line_104 : decode cX6_line 104 = .ok (.ifCond .eq 13, 3) := dk_153 0 13 (dk_at dksX6_line_4 12 rfl rfl)
theorem dX6_line_107 : decode cX6_line 107 = .ok (.aload_n 0, 1) := dk_42 (dk_at dksX6_line_4 15 rfl rfl)
theorem dX6_line_108 : decode cX6_line 108 = .ok (.getstatic 132, 3) := dk_178 0 132 (dk_at dksX6_line_4 16 rfl rfl)
theorem dX6_line_111 : decode cX6_line 111 = .ok (.ldc 135, 2) := dk_18 135 (dk_at dksX6_line_4 19 rfl rfl)
theorem dX6_line_113 : decode cX6_line 113 = .ok (.invokevirtual 126, 3) := dk_182 0 126 (dk_at dksX6_line_4 21 rfl rfl)
theorem dX6_line_116 : decode cX6_line 116 = .ok (.areturn, 1) := dk_176 (dk_at dksX6_line_5 0 rfl rfl)
theorem dX6_line_117 : decode cX6_line 117 = .ok (.aload_n 0, 1) := dk_42 (dk_at dksX6_line_5 1 rfl rfl)
theorem dX6_line_118 : decode cX6_line 118 = .ok (.ldc 137, 2) := dk_18 137 (dk_at dksX6_line_5 2 rfl rfl)
theorem dX6_line_120 : decode cX6_line 120 = .ok (.invokevirtual 41, 3) := dk_182 0 41 (dk_at dksX6_line_5 4 rfl rfl)
theorem dX6_line_123 : decode cX6_line 123 = .ok (.ifCond .eq 19, 3) := dk_153 0 19 (dk_at dksX6_line_5 7 rfl rfl)
theorem dX6_line_126 : decode cX6_line 126 = .ok (.new 139, 3) := dk_187 0 139 (dk_at dksX6_line_5 10 rfl rfl)
theorem dX6_line_129 : decode cX6_line 129 = .ok (.dup, 1) := dk_89 (dk_at dksX6_line_5 13 rfl rfl)
theorem dX6_line_130 : decode cX6_line 130 = .ok (.aload_n 0, 1) := dk_42 (dk_at dksX6_line_5 14 rfl rfl)
theorem dX6_line_131 : decode cX6_line 131 = .ok (.getstatic 91, 3) := dk_178 0 91 (dk_at dksX6_line_5 15 rfl rfl)
theorem dX6_line_134 : decode cX6_line 134 = .ok (.invokevirtual 86, 3) := dk_182 0 86 (dk_at dksX6_line_5 18 rfl rfl)
theorem dX6_line_137 : decode cX6_line 137 = .ok (.iconst 1, 1) := dk_4 (dk_at dksX6_line_5 21 rfl rfl)
theorem dX6_line_138 : decode cX6_line 138 = .ok (.invokespecial 141, 3) := dk_183 0 141 (dk_at dksX6_line_6 0 rfl rfl)
theorem dX6_line_141 : decode cX6_line 141 = .ok (.areturn, 1) := dk_176 (dk_at dksX6_line_6 3 rfl rfl)
theorem dX6_line_142 : decode cX6_line 142 = .ok (.aload_n 0, 1) := dk_42 (dk_at dksX6_line_6 4 rfl rfl)
theorem dX6_line_143 : decode cX6_line 143 = .ok (.ldc 144, 2) := dk_18 144 (dk_at dksX6_line_6 5 rfl rfl)
theorem dX6_line_145 : decode cX6_line 145 = .ok (.invokevirtual 75, 3) := dk_182 0 75 (dk_at dksX6_line_6 7 rfl rfl)
theorem dX6_line_148 : decode cX6_line 148 = .ok (.new 139, 3) := dk_187 0 139 (dk_at dksX6_line_6 10 rfl rfl)
theorem dX6_line_151 : decode cX6_line 151 = .ok (.dup, 1) := dk_89 (dk_at dksX6_line_6 13 rfl rfl)
theorem dX6_line_152 : decode cX6_line 152 = .ok (.aload_n 0, 1) := dk_42 (dk_at dksX6_line_6 14 rfl rfl)
theorem dX6_line_153 : decode cX6_line 153 = .ok (.getstatic 91, 3) := dk_178 0 91 (dk_at dksX6_line_6 15 rfl rfl)
theorem dX6_line_156 : decode cX6_line 156 = .ok (.invokevirtual 86, 3) := dk_182 0 86 (dk_at dksX6_line_6 18 rfl rfl)
theorem dX6_line_159 : decode cX6_line 159 = .ok (.iconst 0, 1) := dk_3 (dk_at dksX6_line_6 21 rfl rfl)
theorem dX6_line_160 : decode cX6_line 160 = .ok (.invokespecial 141, 3) := dk_183 0 141 (dk_at dksX6_line_7 0 rfl rfl)
theorem dX6_line_163 : decode cX6_line 163 = .ok (.areturn, 1) := dk_176 (dk_at dksX6_line_7 3 rfl rfl)
theorem q1122 : (Jvm.Cond.classLink "DebateHall$Reader" (139 : Nat) "DebateHall$Turn") ∈ lw_all := lw_g (lw_at lw_m5 82 rfl) rfl
theorem q126 : (Jvm.Cond.initialized "DebateHall$Turn") ∈ lw_all := lw_g (lw_at lw_m1 46 rfl) rfl
theorem zl_DebateHall_Turn : Cond.initialized "DebateHall$Turn" ∈ lw_all := q126
theorem q1126 : (Jvm.Cond.code ({ cls := "DebateHall$Turn", name := "<init>", desc := "(LDebateHall$Token;Z)V" } : Jvm.MethodName) prog_23_method_1_code (3 : Nat) (Option.none : Option Jvm.ClassFile.FieldType)) ∈ lw_all := lw_g (lw_at lw_m5 86 rfl) rfl
theorem zk_X18_init : zz_cd yX18_init cX18_init 3 none none ∈ lw_all := q1126
theorem zy_X18_init : zz_yok yX18_init 2 = true := by decide +kernel
theorem q1124 : (Jvm.Cond.methodLink "DebateHall$Reader" (141 : Nat) ({ cls := "DebateHall$Turn", name := "<init>", desc := "(LDebateHall$Token;Z)V" } : Jvm.MethodName)) ∈ lw_all := lw_g (lw_at lw_m5 84 rfl) rfl
theorem q1125 : (Jvm.Cond.instanceMethod ({ cls := "DebateHall$Turn", name := "<init>", desc := "(LDebateHall$Token;Z)V" } : Jvm.MethodName)) ∈ lw_all := lw_g (lw_at lw_m5 85 rfl) rfl
theorem q1118 : (Jvm.Cond.fieldLink "DebateHall$Reader" (132 : Nat) "DebateHall$Kind" "SUPPORT" "LDebateHall$Kind;") ∈ lw_all := lw_g (lw_at lw_m5 78 rfl) rfl
theorem q998 : (Jvm.Cond.code ({ cls := "DebateHall$Reader", name := "thrust", desc := "(LDebateHall$Kind;Ljava/lang/String;)LDebateHall$Line;" } : Jvm.MethodName) prog_13_method_11_code (8 : Nat) (Option.some (Jvm.ClassFile.FieldType.object "DebateHall$Line"))) ∈ lw_all := lw_g (lw_at lw_m4 198 rfl) rfl
theorem zk_X6_thrust : zz_cd yX6_thrust cX6_thrust 8 (some (.object "DebateHall$Line")) none ∈ lw_all := q998
theorem zy_X6_thrust : zz_yok yX6_thrust 2 = true := by decide +kernel
theorem q995 : (Jvm.Cond.methodLink "DebateHall$Reader" (126 : Nat) ({ cls := "DebateHall$Reader", name := "thrust", desc := "(LDebateHall$Kind;Ljava/lang/String;)LDebateHall$Line;" } : Jvm.MethodName)) ∈ lw_all := lw_g (lw_at lw_m4 195 rfl) rfl
theorem q997 : (Jvm.Cond.instanceMethod ({ cls := "DebateHall$Reader", name := "thrust", desc := "(LDebateHall$Kind;Ljava/lang/String;)LDebateHall$Line;" } : Jvm.MethodName)) ∈ lw_all := lw_g (lw_at lw_m4 197 rfl) rfl
theorem q992 : (Jvm.Cond.fieldLink "DebateHall$Reader" (118 : Nat) "DebateHall$Kind" "ATTACK" "LDebateHall$Kind;") ∈ lw_all := lw_g (lw_at lw_m4 192 rfl) rfl
theorem q973 : (Jvm.Cond.classLink "DebateHall$Reader" (109 : Nat) "DebateHall$Claim") ∈ lw_all := lw_g (lw_at lw_m4 173 rfl) rfl
theorem q118 : (Jvm.Cond.initialized "DebateHall$Claim") ∈ lw_all := lw_g (lw_at lw_m1 38 rfl) rfl
theorem zl_DebateHall_Claim : Cond.initialized "DebateHall$Claim" ∈ lw_all := q118
theorem q978 : (Jvm.Cond.code ({ cls := "DebateHall$Claim", name := "<init>", desc := "(LDebateHall$Token;LDebateHall$Token;LDebateHall$Token;)V" } : Jvm.MethodName) prog_3_method_1_code (4 : Nat) (Option.none : Option Jvm.ClassFile.FieldType)) ∈ lw_all := lw_g (lw_at lw_m4 178 rfl) rfl
theorem zk_X12_init : zz_cd yX12_init cX12_init 4 none none ∈ lw_all := q978
theorem zy_X12_init : zz_yok yX12_init 3 = true := by decide +kernel
theorem q976 : (Jvm.Cond.methodLink "DebateHall$Reader" (113 : Nat) ({ cls := "DebateHall$Claim", name := "<init>", desc := "(LDebateHall$Token;LDebateHall$Token;LDebateHall$Token;)V" } : Jvm.MethodName)) ∈ lw_all := lw_g (lw_at lw_m4 176 rfl) rfl
theorem q977 : (Jvm.Cond.instanceMethod ({ cls := "DebateHall$Claim", name := "<init>", desc := "(LDebateHall$Token;LDebateHall$Token;LDebateHall$Token;)V" } : Jvm.MethodName)) ∈ lw_all := lw_g (lw_at lw_m4 177 rfl) rfl
theorem q941 : (Jvm.Cond.classLink "DebateHall$Reader" (94 : Nat) "DebateHall$Seat") ∈ lw_all := lw_g (lw_at lw_m4 141 rfl) rfl
theorem q117 : (Jvm.Cond.initialized "DebateHall$Seat") ∈ lw_all := lw_g (lw_at lw_m1 37 rfl) rfl
theorem zl_DebateHall_Seat : Cond.initialized "DebateHall$Seat" ∈ lw_all := q117
theorem q951 : (Jvm.Cond.code ({ cls := "DebateHall$Seat", name := "<init>", desc := "(LDebateHall$Token;LDebateHall$Token;)V" } : Jvm.MethodName) prog_15_method_1_code (3 : Nat) (Option.none : Option Jvm.ClassFile.FieldType)) ∈ lw_all := lw_g (lw_at lw_m4 151 rfl) rfl
theorem zk_X11_init : zz_cd yX11_init cX11_init 3 none none ∈ lw_all := q951
theorem zy_X11_init : zz_yok yX11_init 2 = true := by decide +kernel
theorem q949 : (Jvm.Cond.methodLink "DebateHall$Reader" (102 : Nat) ({ cls := "DebateHall$Seat", name := "<init>", desc := "(LDebateHall$Token;LDebateHall$Token;)V" } : Jvm.MethodName)) ∈ lw_all := lw_g (lw_at lw_m4 149 rfl) rfl
theorem q950 : (Jvm.Cond.instanceMethod ({ cls := "DebateHall$Seat", name := "<init>", desc := "(LDebateHall$Token;LDebateHall$Token;)V" } : Jvm.MethodName)) ∈ lw_all := lw_g (lw_at lw_m4 150 rfl) rfl
def wp_X6_line (Z : zzG) (this : Option Nat) (M : zzM) (bc bs : Nat) (K : Option Value → zzM → Prop) (X : Nat → Nat → zzM → Prop) : Prop := zty Z M this fun t => t = 3 ∧ wp_X6_takeIf Z this (some (zz_ad Z 166)) M (fun r1 M2 => zrI r1 fun x5 => if x5 = 0 then (zty Z M2 this fun t => t = 3 ∧ wp_X6_takeIf Z this (some (zz_ad Z 119)) M2 (fun r6 M7 => zrI r6 fun x10 => if x10 = 0 then (zty Z M7 this fun t => t = 3 ∧ wp_X6_takeIf Z this (some (zz_ad Z 113)) M7 (fun r11 M12 => zrI r11 fun x15 => if x15 = 0 then (zty Z M12 this fun t => t = 3 ∧ wp_X6_takeIf Z this (some (zz_ad Z 169)) M12 (fun r16 M17 => zrI r16 fun x20 => if x20 = 0 then (zty Z M17 this fun t => t = 3 ∧ wp_X6_takeIf Z this (some (zz_ad Z 122)) M17 (fun r21 M22 => zrI r21 fun x25 => if x25 = 0 then (zty Z M22 this fun t => t = 3 ∧ zcx bc bs (fun c s k x => wp_X6_take_2 Z this (some (zz_ad Z 163)) M22 c s k x) (fun r26 M27 bc28 bs29 => zrV r26 (znew Z M27 bc28 bs29 13 3 [.null, .null, .int 0] fun q30 M31 bc32 bs33 => zty Z M31 this fun t => t = 3 ∧ zcx bc32 bs33 (fun c s k x => wp_X6_take Z this (some (zz_ad Z 1)) M31 c s k x) (fun r34 M35 bc36 bs37 => zrA r34 fun x38 => wp_X18_init Z (some q30) x38 (0 : Int32) M35 (fun r39 M40 => zrV r39 (K (some (va_rf (some q30))) M40))) (fun t q M _ _ => X t q M))) (fun t q M _ _ => X t q M)) else (znew Z M22 bc bs 13 3 [.null, .null, .int 0] fun q51 M52 bc53 bs54 => zty Z M52 this fun t => t = 3 ∧ zcx bc53 bs54 (fun c s k x => wp_X6_take Z this (some (zz_ad Z 1)) M52 c s k x) (fun r55 M56 bc57 bs58 => zrA r55 fun x59 => wp_X18_init Z (some q51) x59 (1 : Int32) M56 (fun r60 M61 => zrV r60 (K (some (va_rf (some q51))) M61))) (fun t q M _ _ => X t q M)))) else (zty Z M17 this fun t => t = 3 ∧ zcx bc bs (fun c s k x => wp_X6_thrust Z this (some (zz_ad Z 10)) (some (zz_ad Z 129)) M17 c s k x) (fun r68 M69 bc70 bs71 => zrA r68 fun x72 => K (some (va_rf x72)) M69) (fun t q M _ _ => X t q M)))) else (zty Z M12 this fun t => t = 3 ∧ zcx bc bs (fun c s k x => wp_X6_thrust Z this (some (zz_ad Z 9)) (some (zz_ad Z 149)) M12 c s k x) (fun r77 M78 bc79 bs80 => zrA r77 fun x81 => K (some (va_rf x81)) M78) (fun t q M _ _ => X t q M)))) else (zty Z M7 this fun t => t = 3 ∧ zcx bc bs (fun c s k x => wp_X6_take Z this (some (zz_ad Z 1)) M7 c s k x) (fun r86 M87 bc88 bs89 => zrA r86 fun x90 => zty Z M87 this fun t => t = 3 ∧ zcx bc88 bs89 (fun c s k x => wp_X6_take_2 Z this (some (zz_ad Z 116)) M87 c s k x) (fun r91 M92 bc93 bs94 => zrV r91 (zty Z M92 this fun t => t = 3 ∧ zcx bc93 bs94 (fun c s k x => wp_X6_take Z this (some (zz_ad Z 1)) M92 c s k x) (fun r95 M96 bc97 bs98 => zrA r95 fun x99 => znew Z M96 bc97 bs98 8 4 [.null, .null, .null, .null] fun q100 M101 bc102 bs103 => zty Z M101 this fun t => t = 3 ∧ zcx bc102 bs103 (fun c s k x => wp_X6_numberIf Z this (some (zz_ad Z 176)) M101 c s k x) (fun r104 M105 bc106 bs107 => zrA r104 fun x108 => wp_X12_init Z (some q100) x90 x99 x108 M105 (fun r109 M110 => zrV r109 (K (some (va_rf (some q100))) M110))) (fun t q M _ _ => X t q M)) (fun t q M _ _ => X t q M))) (fun t q M _ _ => X t q M)) (fun t q M _ _ => X t q M)))) else (zty Z M2 this fun t => t = 3 ∧ zcx bc bs (fun c s k x => wp_X6_take Z this (some (zz_ad Z 1)) M2 c s k x) (fun r129 M130 bc131 bs132 => zrA r129 fun x133 => znew Z M130 bc131 bs132 7 3 [.null, .null, .null] fun q134 M135 bc136 bs137 => zty Z M135 this fun t => t = 3 ∧ zcx bc136 bs137 (fun c s k x => wp_X6_numberIf Z this (some (zz_ad Z 172)) M135 c s k x) (fun r138 M139 bc140 bs141 => zrA r138 fun x142 => wp_X11_init Z (some q134) x133 x142 M139 (fun r143 M144 => zrV r143 (K (some (va_rf (some q134))) M144))) (fun t q M _ _ => X t q M)) (fun t q M _ _ => X t q M)))
theorem ok_X6_line {Z : zzG} {l : Launch} (hl : l.stackTraces = false) {this : Option Nat} {M : zzM} {mc ms : Nat} {K : Option Value → zzM → Prop} {X : Nat → Nat → zzM → Prop} (hw : wp_X6_line Z this M mc ms K X) : zz_Met Z l yX6_line (zz_ws yX6_line cX6_line 3 (some (.object "DebateHall$Line")) none) 71 [va_rf this] M mc ms K X := by
  refine zz_ofW hl (plainFor_of_name (by decide)) (by simp only [zz_sl0, zz_slI, zz_slJ, zz_slA] <;> decide) (fun G hZ hll C E hH hR hin => ?_)
  subst hZ
  subst hll
  rw [show lv_args 0 [va_rf this] = [(0, va_rf this)] by simp only [zz_la0, zz_laI, zz_laJ, zz_laA]]
  unfold wp_X6_line at hw
  refine zz_aload_n C dX6_line_0 rfl 0 rfl ?_
  refine zz_ldcS (j := 66) C dX6_line_1 rfl ?_
  obtain ⟨a9, t9, b9, fs9, hro, hL, rfl, hw⟩ := ztyS hw
  refine zz_callV (r := (zR_3, zT_3, 3)) (As := [va_rf (some (zz_ad (zz_Zof G) 166))]) (rest := []) (mc := 0) (ms := 0) C hR hro dX6_line_3 (Or.inl q895) q897 (Or.inl qs7) zl_DebateHall_Reader zk_X6_takeIf (Or.inl rfl) zy_X6_takeIf rfl (by decide) (by decide) hL (ok_X6_takeIf (zz_hl C) hw) (Nat.zero_le _) (Nat.zero_le _) (zz_cat10 _ (Nat.le_of_ble_eq_true rfl)) (fun r1 M2 hw => zz_kI hw (fun x5 hw => ?_)) (fun _ _ _ h9 => h9.elim) rfl
  refine zz_if_eq (tgt := 32) C dX6_line_6 (by decide) hw (fun hw => ?_) (fun hw => ?_)
  · refine zz_aload_n C dX6_line_32 rfl 0 rfl ?_
    refine zz_ldcS (j := 19) C dX6_line_33 rfl ?_
    obtain ⟨a9, t9, b9, fs9, hro, hL, rfl, hw⟩ := ztyS hw
    refine zz_callV (r := (zR_3, zT_3, 3)) (As := [va_rf (some (zz_ad (zz_Zof G) 119))]) (rest := []) (mc := 0) (ms := 0) C hR hro dX6_line_35 (Or.inl q895) q897 (Or.inl qs7) zl_DebateHall_Reader zk_X6_takeIf (Or.inl rfl) zy_X6_takeIf rfl (by decide) (by decide) hL (ok_X6_takeIf (zz_hl C) hw) (Nat.zero_le _) (Nat.zero_le _) (zz_cat10 _ (Nat.le_of_ble_eq_true rfl)) (fun r6 M7 hw => zz_kI hw (fun x10 hw => ?_)) (fun _ _ _ h9 => h9.elim) rfl
    refine zz_if_eq (tgt := 79) C dX6_line_38 (by decide) hw (fun hw => ?_) (fun hw => ?_)
    · refine zz_aload_n C dX6_line_79 rfl 0 rfl ?_
      refine zz_ldcS (j := 13) C dX6_line_80 rfl ?_
      obtain ⟨a9, t9, b9, fs9, hro, hL, rfl, hw⟩ := ztyS hw
      refine zz_callV (r := (zR_3, zT_3, 3)) (As := [va_rf (some (zz_ad (zz_Zof G) 113))]) (rest := []) (mc := 0) (ms := 0) C hR hro dX6_line_82 (Or.inl q895) q897 (Or.inl qs7) zl_DebateHall_Reader zk_X6_takeIf (Or.inl rfl) zy_X6_takeIf rfl (by decide) (by decide) hL (ok_X6_takeIf (zz_hl C) hw) (Nat.zero_le _) (Nat.zero_le _) (zz_cat10 _ (Nat.le_of_ble_eq_true rfl)) (fun r11 M12 hw => zz_kI hw (fun x15 hw => ?_)) (fun _ _ _ h9 => h9.elim) rfl
      refine zz_if_eq (tgt := 98) C dX6_line_85 (by decide) hw (fun hw => ?_) (fun hw => ?_)
      · refine zz_aload_n C dX6_line_98 rfl 0 rfl ?_
        refine zz_ldcS (j := 69) C dX6_line_99 rfl ?_
        obtain ⟨a9, t9, b9, fs9, hro, hL, rfl, hw⟩ := ztyS hw
        refine zz_callV (r := (zR_3, zT_3, 3)) (As := [va_rf (some (zz_ad (zz_Zof G) 169))]) (rest := []) (mc := 0) (ms := 0) C hR hro dX6_line_101 (Or.inl q895) q897 (Or.inl qs7) zl_DebateHall_Reader zk_X6_takeIf (Or.inl rfl) zy_X6_takeIf rfl (by decide) (by decide) hL (ok_X6_takeIf (zz_hl C) hw) (Nat.zero_le _) (Nat.zero_le _) (zz_cat10 _ (Nat.le_of_ble_eq_true rfl)) (fun r16 M17 hw => zz_kI hw (fun x20 hw => ?_)) (fun _ _ _ h9 => h9.elim) rfl
        refine zz_if_eq (tgt := 117) C dX6_line_104 (by decide) hw (fun hw => ?_) (fun hw => ?_)
        · refine zz_aload_n C dX6_line_117 rfl 0 rfl ?_
          refine zz_ldcS (j := 22) C dX6_line_118 rfl ?_
          obtain ⟨a9, t9, b9, fs9, hro, hL, rfl, hw⟩ := ztyS hw
          refine zz_callV (r := (zR_3, zT_3, 3)) (As := [va_rf (some (zz_ad (zz_Zof G) 122))]) (rest := []) (mc := 0) (ms := 0) C hR hro dX6_line_120 (Or.inl q895) q897 (Or.inl qs7) zl_DebateHall_Reader zk_X6_takeIf (Or.inl rfl) zy_X6_takeIf rfl (by decide) (by decide) hL (ok_X6_takeIf (zz_hl C) hw) (Nat.zero_le _) (Nat.zero_le _) (zz_cat10 _ (Nat.le_of_ble_eq_true rfl)) (fun r21 M22 hw => zz_kI hw (fun x25 hw => ?_)) (fun _ _ _ h9 => h9.elim) rfl
          refine zz_if_eq (tgt := 142) C dX6_line_123 (by decide) hw (fun hw => ?_) (fun hw => ?_)
          · refine zz_aload_n C dX6_line_142 rfl 0 rfl ?_
            refine zz_ldcS (j := 63) C dX6_line_143 rfl ?_
            obtain ⟨a9, t9, b9, fs9, hro, hL, rfl, hw⟩ := ztyS hw
            obtain ⟨c9, s9, hc9, hs9, hw⟩ := hw
            refine zz_callV (r := (zR_3, zT_3, 3)) (As := [va_rf (some (zz_ad (zz_Zof G) 163))]) (rest := []) C hR hro dX6_line_145 (Or.inl q969) q971 (Or.inl qs11) zl_DebateHall_Reader zk_X6_take_2 (Or.inl rfl) zy_X6_take_2 rfl (by decide) (by decide) hL (ok_X6_take_2 (zz_hl C) hw) hc9 hs9 (zz_cat10 _ (Nat.le_of_ble_eq_true rfl)) (fun r26 M27 hw => zz_kV hw (fun hw => ?_)) (fun t9 q47 M48 hx => ?_) rfl
            · refine zz_new (r := (zR_13, zT_13, 3)) C dX6_line_148 rfl (by decide) q1122 q1123 zl_DebateHall_Turn rfl hw (fun q30 M31 bc32 bs33 hw => ?_)
              refine zz_dup C dX6_line_151 (zz_cat _) ?_
              refine zz_aload_n C dX6_line_152 rfl 0 rfl ?_
              refine zz_gets (j := 1) (v := va_rf (some (zz_ad (zz_Zof G) 1))) C dX6_line_153 (Or.inl q906) rfl (Or.inl rfl) rfl ?_
              obtain ⟨a9, t9, b9, fs9, hro, hL, rfl, hw⟩ := ztyS hw
              obtain ⟨c9, s9, hc9, hs9, hw⟩ := hw
              refine zz_callV (r := (zR_3, zT_3, 3)) (As := [va_rf (some (zz_ad (zz_Zof G) 1))]) (rest := [va_rf (some q30), va_rf (some q30)]) C hR hro dX6_line_156 (Or.inl q907) q909 (Or.inl qs8) zl_DebateHall_Reader zk_X6_take (Or.inl rfl) zy_X6_take rfl (by decide) (by decide) hL (ok_X6_take (zz_hl C) hw) hc9 hs9 (zz_cat10 _ (Nat.le_of_ble_eq_true rfl)) (fun r34 M35 hw => zz_kA hw (fun x38 hw => ?_)) (fun t9 q43 M44 hx => ?_) rfl
              · refine zz_iconst (v := (0 : Int32)) C dX6_line_159 (by decide) ?_
                refine zz_callI (As := [va_rf x38, .int (0 : Int32)]) (rest := [va_rf (some q30)]) (mc := 0) (ms := 0) C hR rfl dX6_line_160 (Or.inl q1124) q1125 zl_DebateHall_Turn zk_X18_init rfl zy_X18_init (by decide) (by decide) (ok_X18_init (zz_hl C) hw) (Nat.zero_le _) (Nat.zero_le _) (zz_cat10 _ (Nat.le_of_ble_eq_true rfl)) (fun r39 M40 hw => zz_kV hw (fun hw => ?_)) (fun _ _ _ h9 => h9.elim) rfl
                exact zz_aret C E (Or.inl ⟨_, rfl⟩) dX6_line_163 hw
              · exact zz_out C E hH rfl hx
            · exact zz_out C E hH rfl hx
          · refine zz_new (r := (zR_13, zT_13, 3)) C dX6_line_126 rfl (by decide) q1122 q1123 zl_DebateHall_Turn rfl hw (fun q51 M52 bc53 bs54 hw => ?_)
            refine zz_dup C dX6_line_129 (zz_cat _) ?_
            refine zz_aload_n C dX6_line_130 rfl 0 rfl ?_
            refine zz_gets (j := 1) (v := va_rf (some (zz_ad (zz_Zof G) 1))) C dX6_line_131 (Or.inl q906) rfl (Or.inl rfl) rfl ?_
            obtain ⟨a9, t9, b9, fs9, hro, hL, rfl, hw⟩ := ztyS hw
            obtain ⟨c9, s9, hc9, hs9, hw⟩ := hw
            refine zz_callV (r := (zR_3, zT_3, 3)) (As := [va_rf (some (zz_ad (zz_Zof G) 1))]) (rest := [va_rf (some q51), va_rf (some q51)]) C hR hro dX6_line_134 (Or.inl q907) q909 (Or.inl qs8) zl_DebateHall_Reader zk_X6_take (Or.inl rfl) zy_X6_take rfl (by decide) (by decide) hL (ok_X6_take (zz_hl C) hw) hc9 hs9 (zz_cat10 _ (Nat.le_of_ble_eq_true rfl)) (fun r55 M56 hw => zz_kA hw (fun x59 hw => ?_)) (fun t9 q64 M65 hx => ?_) rfl
            · refine zz_iconst (v := (1 : Int32)) C dX6_line_137 (by decide) ?_
              refine zz_callI (As := [va_rf x59, .int (1 : Int32)]) (rest := [va_rf (some q51)]) (mc := 0) (ms := 0) C hR rfl dX6_line_138 (Or.inl q1124) q1125 zl_DebateHall_Turn zk_X18_init rfl zy_X18_init (by decide) (by decide) (ok_X18_init (zz_hl C) hw) (Nat.zero_le _) (Nat.zero_le _) (zz_cat10 _ (Nat.le_of_ble_eq_true rfl)) (fun r60 M61 hw => zz_kV hw (fun hw => ?_)) (fun _ _ _ h9 => h9.elim) rfl
              exact zz_aret C E (Or.inl ⟨_, rfl⟩) dX6_line_141 hw
            · exact zz_out C E hH rfl hx
        · refine zz_aload_n C dX6_line_107 rfl 0 rfl ?_
          refine zz_gets (j := 10) (v := va_rf (some (zz_ad (zz_Zof G) 10))) C dX6_line_108 (Or.inl q1118) rfl (Or.inl rfl) rfl ?_
          refine zz_ldcS (j := 29) C dX6_line_111 rfl ?_
          obtain ⟨a9, t9, b9, fs9, hro, hL, rfl, hw⟩ := ztyS hw
          obtain ⟨c9, s9, hc9, hs9, hw⟩ := hw
          refine zz_callV (r := (zR_3, zT_3, 3)) (As := [va_rf (some (zz_ad (zz_Zof G) 10)), va_rf (some (zz_ad (zz_Zof G) 129))]) (rest := []) C hR hro dX6_line_113 (Or.inl q995) q997 (Or.inl qs12) zl_DebateHall_Reader zk_X6_thrust (Or.inl rfl) zy_X6_thrust rfl (by decide) (by decide) hL (ok_X6_thrust (zz_hl C) hw) hc9 hs9 (zz_cat10 _ (Nat.le_of_ble_eq_true rfl)) (fun r68 M69 hw => zz_kA hw (fun x72 hw => ?_)) (fun t9 q73 M74 hx => ?_) rfl
          · exact zz_aret C E (Or.inl ⟨_, rfl⟩) dX6_line_116 hw
          · exact zz_out C E hH rfl hx
      · refine zz_aload_n C dX6_line_88 rfl 0 rfl ?_
        refine zz_gets (j := 9) (v := va_rf (some (zz_ad (zz_Zof G) 9))) C dX6_line_89 (Or.inl q992) rfl (Or.inl rfl) rfl ?_
        refine zz_ldcS (j := 49) C dX6_line_92 rfl ?_
        obtain ⟨a9, t9, b9, fs9, hro, hL, rfl, hw⟩ := ztyS hw
        obtain ⟨c9, s9, hc9, hs9, hw⟩ := hw
        refine zz_callV (r := (zR_3, zT_3, 3)) (As := [va_rf (some (zz_ad (zz_Zof G) 9)), va_rf (some (zz_ad (zz_Zof G) 149))]) (rest := []) C hR hro dX6_line_94 (Or.inl q995) q997 (Or.inl qs12) zl_DebateHall_Reader zk_X6_thrust (Or.inl rfl) zy_X6_thrust rfl (by decide) (by decide) hL (ok_X6_thrust (zz_hl C) hw) hc9 hs9 (zz_cat10 _ (Nat.le_of_ble_eq_true rfl)) (fun r77 M78 hw => zz_kA hw (fun x81 hw => ?_)) (fun t9 q82 M83 hx => ?_) rfl
        · exact zz_aret C E (Or.inl ⟨_, rfl⟩) dX6_line_97 hw
        · exact zz_out C E hH rfl hx
    · refine zz_aload_n C dX6_line_41 rfl 0 rfl ?_
      refine zz_gets (j := 1) (v := va_rf (some (zz_ad (zz_Zof G) 1))) C dX6_line_42 (Or.inl q906) rfl (Or.inl rfl) rfl ?_
      obtain ⟨a9, t9, b9, fs9, hro, hL, rfl, hw⟩ := ztyS hw
      obtain ⟨c9, s9, hc9, hs9, hw⟩ := hw
      refine zz_callV (r := (zR_3, zT_3, 3)) (As := [va_rf (some (zz_ad (zz_Zof G) 1))]) (rest := []) C hR hro dX6_line_45 (Or.inl q907) q909 (Or.inl qs8) zl_DebateHall_Reader zk_X6_take (Or.inl rfl) zy_X6_take rfl (by decide) (by decide) hL (ok_X6_take (zz_hl C) hw) hc9 hs9 (zz_cat10 _ (Nat.le_of_ble_eq_true rfl)) (fun r86 M87 hw => zz_kA hw (fun x90 hw => ?_)) (fun t9 q125 M126 hx => ?_) rfl
      · refine zz_astore_n (i := 1) (lv' := [(1, va_rf x90), (0, va_rf this)]) C dX6_line_48 rfl (by decide) (by simp [zz_cat, zz_catI, zz_catJ, zz_catD]) ?_
        refine zz_aload_n C dX6_line_49 rfl 1 rfl ?_
        refine zz_ldcS (j := 16) C dX6_line_50 rfl ?_
        obtain ⟨a9, t9, b9, fs9, hro, hL, rfl, hw⟩ := ztyS hw
        obtain ⟨c9, s9, hc9, hs9, hw⟩ := hw
        refine zz_callV (r := (zR_3, zT_3, 3)) (As := [va_rf (some (zz_ad (zz_Zof G) 116))]) (rest := []) C hR hro dX6_line_52 (Or.inl q969) q971 (Or.inl qs11) zl_DebateHall_Reader zk_X6_take_2 (Or.inl rfl) zy_X6_take_2 rfl (by decide) (by decide) hL (ok_X6_take_2 (zz_hl C) hw) hc9 hs9 (zz_cat10 _ (Nat.le_of_ble_eq_true rfl)) (fun r91 M92 hw => zz_kV hw (fun hw => ?_)) (fun t9 q121 M122 hx => ?_) rfl
        · refine zz_aload_n C dX6_line_55 rfl 1 rfl ?_
          refine zz_gets (j := 1) (v := va_rf (some (zz_ad (zz_Zof G) 1))) C dX6_line_56 (Or.inl q906) rfl (Or.inl rfl) rfl ?_
          obtain ⟨a9, t9, b9, fs9, hro, hL, rfl, hw⟩ := ztyS hw
          obtain ⟨c9, s9, hc9, hs9, hw⟩ := hw
          refine zz_callV (r := (zR_3, zT_3, 3)) (As := [va_rf (some (zz_ad (zz_Zof G) 1))]) (rest := []) C hR hro dX6_line_59 (Or.inl q907) q909 (Or.inl qs8) zl_DebateHall_Reader zk_X6_take (Or.inl rfl) zy_X6_take rfl (by decide) (by decide) hL (ok_X6_take (zz_hl C) hw) hc9 hs9 (zz_cat10 _ (Nat.le_of_ble_eq_true rfl)) (fun r95 M96 hw => zz_kA hw (fun x99 hw => ?_)) (fun t9 q117 M118 hx => ?_) rfl
          · refine zz_astore_n (i := 2) (lv' := [(2, va_rf x99), (1, va_rf x90), (0, va_rf this)]) C dX6_line_62 rfl (by decide) (by simp [zz_cat, zz_catI, zz_catJ, zz_catD]) ?_
            refine zz_new (r := (zR_8, zT_8, 4)) C dX6_line_63 rfl (by decide) q973 q974 zl_DebateHall_Claim rfl hw (fun q100 M101 bc102 bs103 hw => ?_)
            refine zz_dup C dX6_line_66 (zz_cat _) ?_
            refine zz_aload_n C dX6_line_67 rfl 1 rfl ?_
            refine zz_aload_n C dX6_line_68 rfl 0 rfl ?_
            refine zz_aload_n C dX6_line_69 rfl 2 rfl ?_
            refine zz_ldcS (j := 76) C dX6_line_70 rfl ?_
            obtain ⟨a9, t9, b9, fs9, hro, hL, rfl, hw⟩ := ztyS hw
            obtain ⟨c9, s9, hc9, hs9, hw⟩ := hw
            refine zz_callV (r := (zR_3, zT_3, 3)) (As := [va_rf (some (zz_ad (zz_Zof G) 176))]) (rest := [va_rf x99, va_rf x90, va_rf (some q100), va_rf (some q100)]) C hR hro dX6_line_72 (Or.inl q944) q946 (Or.inl qs10) zl_DebateHall_Reader zk_X6_numberIf (Or.inl rfl) zy_X6_numberIf rfl (by decide) (by decide) hL (ok_X6_numberIf (zz_hl C) hw) hc9 hs9 (zz_cat10 _ (Nat.le_of_ble_eq_true rfl)) (fun r104 M105 hw => zz_kA hw (fun x108 hw => ?_)) (fun t9 q113 M114 hx => ?_) rfl
            · refine zz_callI (As := [va_rf x90, va_rf x99, va_rf x108]) (rest := [va_rf (some q100)]) (mc := 0) (ms := 0) C hR rfl dX6_line_75 (Or.inl q976) q977 zl_DebateHall_Claim zk_X12_init rfl zy_X12_init (by decide) (by decide) (ok_X12_init (zz_hl C) hw) (Nat.zero_le _) (Nat.zero_le _) (zz_cat10 _ (Nat.le_of_ble_eq_true rfl)) (fun r109 M110 hw => zz_kV hw (fun hw => ?_)) (fun _ _ _ h9 => h9.elim) rfl
              exact zz_aret C E (Or.inl ⟨_, rfl⟩) dX6_line_78 hw
            · exact zz_out C E hH rfl hx
          · exact zz_out C E hH rfl hx
        · exact zz_out C E hH rfl hx
      · exact zz_out C E hH rfl hx
  · refine zz_aload_n C dX6_line_9 rfl 0 rfl ?_
    refine zz_gets (j := 1) (v := va_rf (some (zz_ad (zz_Zof G) 1))) C dX6_line_10 (Or.inl q906) rfl (Or.inl rfl) rfl ?_
    obtain ⟨a9, t9, b9, fs9, hro, hL, rfl, hw⟩ := ztyS hw
    obtain ⟨c9, s9, hc9, hs9, hw⟩ := hw
    refine zz_callV (r := (zR_3, zT_3, 3)) (As := [va_rf (some (zz_ad (zz_Zof G) 1))]) (rest := []) C hR hro dX6_line_13 (Or.inl q907) q909 (Or.inl qs8) zl_DebateHall_Reader zk_X6_take (Or.inl rfl) zy_X6_take rfl (by decide) (by decide) hL (ok_X6_take (zz_hl C) hw) hc9 hs9 (zz_cat10 _ (Nat.le_of_ble_eq_true rfl)) (fun r129 M130 hw => zz_kA hw (fun x133 hw => ?_)) (fun t9 q151 M152 hx => ?_) rfl
    · refine zz_astore_n (i := 1) (lv' := [(1, va_rf x133), (0, va_rf this)]) C dX6_line_16 rfl (by decide) (by simp [zz_cat, zz_catI, zz_catJ, zz_catD]) ?_
      refine zz_new (r := (zR_7, zT_7, 3)) C dX6_line_17 rfl (by decide) q941 q942 zl_DebateHall_Seat rfl hw (fun q134 M135 bc136 bs137 hw => ?_)
      refine zz_dup C dX6_line_20 (zz_cat _) ?_
      refine zz_aload_n C dX6_line_21 rfl 0 rfl ?_
      refine zz_aload_n C dX6_line_22 rfl 1 rfl ?_
      refine zz_ldcS (j := 72) C dX6_line_23 rfl ?_
      obtain ⟨a9, t9, b9, fs9, hro, hL, rfl, hw⟩ := ztyS hw
      obtain ⟨c9, s9, hc9, hs9, hw⟩ := hw
      refine zz_callV (r := (zR_3, zT_3, 3)) (As := [va_rf (some (zz_ad (zz_Zof G) 172))]) (rest := [va_rf x133, va_rf (some q134), va_rf (some q134)]) C hR hro dX6_line_25 (Or.inl q944) q946 (Or.inl qs10) zl_DebateHall_Reader zk_X6_numberIf (Or.inl rfl) zy_X6_numberIf rfl (by decide) (by decide) hL (ok_X6_numberIf (zz_hl C) hw) hc9 hs9 (zz_cat10 _ (Nat.le_of_ble_eq_true rfl)) (fun r138 M139 hw => zz_kA hw (fun x142 hw => ?_)) (fun t9 q147 M148 hx => ?_) rfl
      · refine zz_callI (As := [va_rf x133, va_rf x142]) (rest := [va_rf (some q134)]) (mc := 0) (ms := 0) C hR rfl dX6_line_28 (Or.inl q949) q950 zl_DebateHall_Seat zk_X11_init rfl zy_X11_init (by decide) (by decide) (ok_X11_init (zz_hl C) hw) (Nat.zero_le _) (Nat.zero_le _) (zz_cat10 _ (Nat.le_of_ble_eq_true rfl)) (fun r143 M144 hw => zz_kV hw (fun hw => ?_)) (fun _ _ _ h9 => h9.elim) rfl
        exact zz_aret C E (Or.inl ⟨_, rfl⟩) dX6_line_31 hw
      · exact zz_out C E hH rfl hx
    · exact zz_out C E hH rfl hx
abbrev cX6_read : ByteArray := prog_13_method_8_code
def yX6_read : MethodName := ⟨"DebateHall$Reader", "read", "()Ljava/util/List;"⟩
def dkwX6_read_2 : List UInt8 := [167, 255, 218, 43, 176]
abbrev dktX6_read_2 : List UInt8 := dkwX6_read_2 ++ []
def dkwX6_read_1 : List UInt8 := [182, 0, 63, 77, 44, 42, 182, 0, 29, 181, 0, 67, 42, 18, 73, 182, 0, 75, 43, 44, 182, 0, 79, 87]
abbrev dktX6_read_1 : List UInt8 := dkwX6_read_1 ++ dktX6_read_2
def dkwX6_read_0 : List UInt8 := [187, 0, 55, 89, 183, 0, 57, 76, 42, 182, 0, 29, 180, 0, 48, 178, 0, 58, 165, 0, 31, 42]
abbrev dktX6_read_0 : List UInt8 := dkwX6_read_0 ++ dktX6_read_1
theorem dksX6_read_0 : cX6_read.data.toList.drop 0 = dktX6_read_0 := by decide +kernel
theorem dksX6_read_1 : cX6_read.data.toList.drop 22 = dktX6_read_1 := dk_seg dksX6_read_0 22 rfl rfl
theorem dksX6_read_2 : cX6_read.data.toList.drop 46 = dktX6_read_2 := dk_seg dksX6_read_1 24 rfl rfl
theorem dX6_read_0 : decode cX6_read 0 = .ok (.new 55, 3) := dk_187 0 55 (dk_at dksX6_read_0 0 rfl rfl)
theorem dX6_read_3 : decode cX6_read 3 = .ok (.dup, 1) := dk_89 (dk_at dksX6_read_0 3 rfl rfl)
theorem dX6_read_4 : decode cX6_read 4 = .ok (.invokespecial 57, 3) := dk_183 0 57 (dk_at dksX6_read_0 4 rfl rfl)
theorem dX6_read_7 : decode cX6_read 7 = .ok (.astore_n 1, 1) := dk_76 (dk_at dksX6_read_0 7 rfl rfl)
theorem dX6_read_8 : decode cX6_read 8 = .ok (.aload_n 0, 1) := dk_42 (dk_at dksX6_read_0 8 rfl rfl)
theorem dX6_read_9 : decode cX6_read 9 = .ok (.invokevirtual 29, 3) := dk_182 0 29 (dk_at dksX6_read_0 9 rfl rfl)
theorem dX6_read_12 : decode cX6_read 12 = .ok (.getfield 48, 3) := dk_180 0 48 (dk_at dksX6_read_0 12 rfl rfl)
theorem dX6_read_15 : decode cX6_read 15 = .ok (.getstatic 58, 3) := dk_178 0 58 (dk_at dksX6_read_0 15 rfl rfl)
theorem dX6_read_18 : decode cX6_read 18 = .ok (.if_acmp .eq 31, 3) := dk_165 0 31 (dk_at dksX6_read_0 18 rfl rfl)
theorem dX6_read_21 : decode cX6_read 21 = .ok (.aload_n 0, 1) := dk_42 (dk_at dksX6_read_0 21 rfl rfl)
theorem dX6_read_22 : decode cX6_read 22 = .ok (.invokevirtual 63, 3) := dk_182 0 63 (dk_at dksX6_read_1 0 rfl rfl)
theorem dX6_read_25 : decode cX6_read 25 = .ok (.astore_n 2, 1) := dk_77 (dk_at dksX6_read_1 3 rfl rfl)
theorem dX6_read_26 : decode cX6_read 26 = .ok (.aload_n 2, 1) := dk_44 (dk_at dksX6_read_1 4 rfl rfl)
theorem dX6_read_27 : decode cX6_read 27 = .ok (.aload_n 0, 1) := dk_42 (dk_at dksX6_read_1 5 rfl rfl)
theorem dX6_read_28 : decode cX6_read 28 = .ok (.invokevirtual 29, 3) := dk_182 0 29 (dk_at dksX6_read_1 6 rfl rfl)
theorem dX6_read_31 : decode cX6_read 31 = .ok (.putfield 67, 3) := dk_181 0 67 (dk_at dksX6_read_1 9 rfl rfl)
theorem dX6_read_34 : decode cX6_read 34 = .ok (.aload_n 0, 1) := dk_42 (dk_at dksX6_read_1 12 rfl rfl)
theorem dX6_read_35 : decode cX6_read 35 = .ok (.ldc 73, 2) := dk_18 73 (dk_at dksX6_read_1 13 rfl rfl)
theorem dX6_read_37 : decode cX6_read 37 = .ok (.invokevirtual 75, 3) := dk_182 0 75 (dk_at dksX6_read_1 15 rfl rfl)
theorem dX6_read_40 : decode cX6_read 40 = .ok (.aload_n 1, 1) := dk_43 (dk_at dksX6_read_1 18 rfl rfl)
theorem dX6_read_41 : decode cX6_read 41 = .ok (.aload_n 2, 1) := dk_44 (dk_at dksX6_read_1 19 rfl rfl)
theorem dX6_read_42 : decode cX6_read 42 = .ok (.invokevirtual 79, 3) := dk_182 0 79 (dk_at dksX6_read_1 20 rfl rfl)
theorem dX6_read_45 : decode cX6_read 45 = .ok (.pop, 1) := dk_87 (dk_at dksX6_read_1 23 rfl rfl)
theorem dX6_read_46 : decode cX6_read 46 = .ok (.goto (-38), 3) := dk_167 255 218 (dk_at dksX6_read_2 0 rfl rfl)
theorem dX6_read_49 : decode cX6_read 49 = .ok (.aload_n 1, 1) := dk_43 (dk_at dksX6_read_2 3 rfl rfl)
theorem dX6_read_50 : decode cX6_read 50 = .ok (.areturn, 1) := dk_176 (dk_at dksX6_read_2 4 rfl rfl)
theorem q864 : (Jvm.Cond.classLink "DebateHall$Reader" (55 : Nat) "java/util/ArrayList") ∈ lw_all := lw_g (lw_at lw_m4 64 rfl) rfl
theorem q865 : (Jvm.Cond.methodLink "DebateHall$Reader" (57 : Nat) ({ cls := "java/util/ArrayList", name := "<init>", desc := "()V" } : Jvm.MethodName)) ∈ lw_all := lw_g (lw_at lw_m4 65 rfl) rfl
theorem q889 : (Jvm.Cond.fieldLink "DebateHall$Reader" (58 : Nat) "DebateHall$Sort" "END" "LDebateHall$Sort;") ∈ lw_all := lw_g (lw_at lw_m4 89 rfl) rfl
theorem q893 : (Jvm.Cond.code ({ cls := "DebateHall$Reader", name := "line", desc := "()LDebateHall$Line;" } : Jvm.MethodName) prog_13_method_10_code (3 : Nat) (Option.some (Jvm.ClassFile.FieldType.object "DebateHall$Line"))) ∈ lw_all := lw_g (lw_at lw_m4 93 rfl) rfl
theorem zk_X6_line : zz_cd yX6_line cX6_line 3 (some (.object "DebateHall$Line")) none ∈ lw_all := q893
theorem zy_X6_line : zz_yok yX6_line 0 = true := by decide +kernel
theorem zf_7_8_12_13_0_ebateHall_Line : zz_fok [7, 8, 12, 13] 0 "DebateHall$Line" "end" "LDebateHall$Token;" := zz_fokC (zz_fok1 (zR_7, zT_7, 3) rfl (by decide) rfl rfl (Or.inl rfl)) (zz_fokC (zz_fok1 (zR_8, zT_8, 4) rfl (by decide) rfl rfl (Or.inl rfl)) (zz_fokC (zz_fok1 (zR_12, zT_12, 7) rfl (by decide) rfl rfl (Or.inl rfl)) (zz_fok1 (zR_13, zT_13, 3) rfl (by decide) rfl rfl (Or.inl rfl))))
theorem q959 : (Jvm.Cond.fieldLinkNest "DebateHall$Reader" (67 : Nat) "DebateHall$Line" "end" "LDebateHall$Token;" "DebateHall") ∈ lw_tbl := lw_at lw_m4 159 rfl
theorem zp_7_8_12_13_0 : zz_pok [7, 8, 12, 13] 0 := zz_pokC (zz_pok1 (zR_7, zT_7, 3) (by decide) rfl rfl) (zz_pokC (zz_pok1 (zR_8, zT_8, 4) (by decide) rfl rfl) (zz_pokC (zz_pok1 (zR_12, zT_12, 7) (by decide) rfl rfl) (zz_pok1 (zR_13, zT_13, 3) (by decide) rfl rfl)))
theorem q890 : (Jvm.Cond.methodLink "DebateHall$Reader" (63 : Nat) ({ cls := "DebateHall$Reader", name := "line", desc := "()LDebateHall$Line;" } : Jvm.MethodName)) ∈ lw_all := lw_g (lw_at lw_m4 90 rfl) rfl
theorem q892 : (Jvm.Cond.instanceMethod ({ cls := "DebateHall$Reader", name := "line", desc := "()LDebateHall$Line;" } : Jvm.MethodName)) ∈ lw_all := lw_g (lw_at lw_m4 92 rfl) rfl
def wp_X6_read_L8 (Z : zzG) (K : Option Value → zzM → Prop) (X : Nat → Nat → zzM → Prop) : Nat → Option Nat → Option Nat → zzM → Nat → Nat → Prop
  | 0, _, _, _, _, _ => False
  | n + 1, v0, v1, M, bc, bs => zty Z M v0 fun t => t = 3 ∧ wp_X6_now Z v0 M (fun r9 M10 => zrA r9 fun x13 => zgA Z M10 x13 [5] 0 fun x14 => if x14 = (some (zz_ad Z 5)) then (K (some (va_rf v1)) M10) else (zty Z M10 v0 fun t => t = 3 ∧ zcx bc bs (fun c s k x => wp_X6_line Z v0 M10 c s k x) (fun r15 M16 bc17 bs18 => zrA r15 fun x19 => zty Z M16 v0 fun t => t = 3 ∧ wp_X6_now Z v0 M16 (fun r20 M21 => zrA r20 fun x24 => zput Z M21 x19 [7, 8, 12, 13] 0 (va_rf x24) fun M25 => zty Z M25 v0 fun t => t = 3 ∧ zcx bc17 bs18 (fun c s k x => wp_X6_take_2 Z v0 (some (zz_ad Z 104)) M25 c s k x) (fun r26 M27 bc28 bs29 => zrV r26 (zty Z M27 v1 fun t => t = 18 ∧ zcc bc28 bs29 (fun c s k => wp_J2_add Z v1 x19 M27 c s k) fun r30 M31 bc32 bs33 => zrI r30 fun x34 => wp_X6_read_L8 Z K X n v0 v1 M31 bc32 bs33)) (fun t q M _ _ => X t q M))) (fun t q M _ _ => X t q M)))
def wp_X6_read (Z : zzG) (this : Option Nat) (M : zzM) (bc bs : Nat) (K : Option Value → zzM → Prop) (X : Nat → Nat → zzM → Prop) : Prop := znew Z M bc bs 18 3 [.int 0, .null, .int 0] fun q1 M2 bc3 bs4 => wp_J2_init Z (some q1) M2 (fun r5 M6 => zrV r5 (∃ n8 : Nat, wp_X6_read_L8 Z K X n8 this (some q1) M6 bc3 bs4))
theorem ok_X6_read_L8 {G : zzX} (C : zz_C G cX6_read "DebateHall$Reader" 3) {K : Option Value → zzM → Prop} {X : Nat → Nat → zzM → Prop} (E : zz_E G (some (.object "java/util/List")) K X) (hH : zz_H G []) (hR : zz_Rm G 72) : ∀ (n : Nat) (v0 : Option Nat) (v1 : Option Nat) (M : zzM) (bc bs : Nat), wp_X6_read_L8 (zz_Zof G) K X n v0 v1 M bc bs → zz_T G 3 M bc bs 8 [(0, va_rf v0), (1, va_rf v1)] [] := by
  intro n
  induction n with
  | zero =>
    intro v0 v1 M bc bs hw
    exact False.elim hw
  | succ n ih =>
    intro v0 v1 M bc bs hw
    refine zz_aload_n C dX6_read_8 rfl 0 rfl ?_
    obtain ⟨a9, t9, b9, fs9, hro, hL, rfl, hw⟩ := ztyS hw
    refine zz_callV (r := (zR_3, zT_3, 3)) (As := []) (rest := []) (mc := 0) (ms := 0) C hR hro dX6_read_9 (Or.inl q866) q868 (Or.inl qs5) zl_DebateHall_Reader zk_X6_now (Or.inl rfl) zy_X6_now rfl (by decide) (by decide) hL (ok_X6_now (zz_hl C) hw) (Nat.zero_le _) (Nat.zero_le _) (zz_cat10 _ (Nat.le_of_ble_eq_true rfl)) (fun r9 M10 hw => zz_kA hw (fun x13 hw => ?_)) (fun _ _ _ h9 => h9.elim) rfl
    refine zz_getA C dX6_read_12 (Or.inr ⟨_, q367⟩) zf_5_0_bateHall_Token hw (fun x14 hw => ?_)
    refine zz_gets (j := 5) (v := va_rf (some (zz_ad (zz_Zof G) 5))) C dX6_read_15 (Or.inl q889) rfl (Or.inl rfl) rfl ?_
    refine zz_acmp_eq (tgt := 49) C dX6_read_18 (by decide) hw (fun hw => ?_) (fun hw => ?_)
    · refine zz_aload_n C dX6_read_49 rfl 1 rfl ?_
      exact zz_aret C E (Or.inl ⟨_, rfl⟩) dX6_read_50 hw
    · refine zz_aload_n C dX6_read_21 rfl 0 rfl ?_
      obtain ⟨a9, t9, b9, fs9, hro, hL, rfl, hw⟩ := ztyS hw
      obtain ⟨c9, s9, hc9, hs9, hw⟩ := hw
      refine zz_callV (r := (zR_3, zT_3, 3)) (As := []) (rest := []) C hR hro dX6_read_22 (Or.inl q890) q892 (Or.inl qs6) zl_DebateHall_Reader zk_X6_line (Or.inl rfl) zy_X6_line rfl (by decide) (by decide) hL (ok_X6_line (zz_hl C) hw) hc9 hs9 (zz_cat10 _ (Nat.le_of_ble_eq_true rfl)) (fun r15 M16 hw => zz_kA hw (fun x19 hw => ?_)) (fun t9 q39 M40 hx => ?_) rfl
      · refine zz_astore_n (i := 2) (lv' := [(2, va_rf x19), (0, va_rf v0), (1, va_rf v1)]) C dX6_read_25 rfl (by decide) (by simp [zz_cat, zz_catI, zz_catJ, zz_catD]) ?_
        refine zz_aload_n C dX6_read_26 rfl 0 rfl ?_
        refine zz_aload_n C dX6_read_27 rfl 1 rfl ?_
        obtain ⟨a9, t9, b9, fs9, hro, hL, rfl, hw⟩ := ztyS hw
        refine zz_callV (r := (zR_3, zT_3, 3)) (As := []) (rest := [va_rf x19]) (mc := 0) (ms := 0) C hR hro dX6_read_28 (Or.inl q866) q868 (Or.inl qs5) zl_DebateHall_Reader zk_X6_now (Or.inl rfl) zy_X6_now rfl (by decide) (by decide) hL (ok_X6_now (zz_hl C) hw) (Nat.zero_le _) (Nat.zero_le _) (zz_cat10 _ (Nat.le_of_ble_eq_true rfl)) (fun r20 M21 hw => zz_kA hw (fun x24 hw => ?_)) (fun _ _ _ h9 => h9.elim) rfl
        refine zz_put C dX6_read_31 (Or.inr ⟨_, q959⟩) zf_7_8_12_13_0_ebateHall_Line zp_7_8_12_13_0 (zz_hnC (zz_nA _ rfl x24) (zz_hnC (zz_nA _ rfl x24) (zz_hnC (zz_nA _ rfl x24) (zz_hn1 (zz_nA _ rfl x24))))) hw (fun M25 hw => ?_)
        refine zz_aload_n C dX6_read_34 rfl 1 rfl ?_
        refine zz_ldcS (j := 4) C dX6_read_35 rfl ?_
        obtain ⟨a9, t9, b9, fs9, hro, hL, rfl, hw⟩ := ztyS hw
        obtain ⟨c9, s9, hc9, hs9, hw⟩ := hw
        refine zz_callV (r := (zR_3, zT_3, 3)) (As := [va_rf (some (zz_ad (zz_Zof G) 104))]) (rest := []) C hR hro dX6_read_37 (Or.inl q969) q971 (Or.inl qs11) zl_DebateHall_Reader zk_X6_take_2 (Or.inl rfl) zy_X6_take_2 rfl (by decide) (by decide) hL (ok_X6_take_2 (zz_hl C) hw) hc9 hs9 (zz_cat10 _ (Nat.le_of_ble_eq_true rfl)) (fun r26 M27 hw => zz_kV hw (fun hw => ?_)) (fun t9 q35 M36 hx => ?_) rfl
        · refine zz_aload_n C dX6_read_40 rfl 2 rfl ?_
          refine zz_aload_n C dX6_read_41 rfl 0 rfl ?_
          obtain ⟨a9, t9, b9, fs9, hro, hL, rfl, hw⟩ := ztyS hw
          obtain ⟨c9, s9, hc9, hs9, hw⟩ := hw
          refine zz_callV (r := (zR_18, zT_18, 3)) (As := [va_rf x19]) (rest := []) C hR hro dX6_read_42 (Or.inl q1067) q776 (Or.inl q777) zl_java_util_ArrayList zk_J2_add (Or.inl rfl) zy_J2_add rfl (by decide) (by decide) hL (ok_J2_add (zz_hl C) hw) hc9 hs9 (zz_cat10 _ (Nat.le_of_ble_eq_true rfl)) (fun r30 M31 hw => zz_kI hw (fun x34 hw => ?_)) (fun _ _ _ h9 => h9.elim) rfl
          refine zz_pop C dX6_read_45 rfl ?_
          refine zz_goto (tgt := 8) C dX6_read_46 (by decide) ?_
          refine zz_subP [1, 2] rfl ?_
          exact ih _ _ _ _ _ hw
        · exact zz_out C E hH rfl hx
      · exact zz_out C E hH rfl hx
theorem ok_X6_read {Z : zzG} {l : Launch} (hl : l.stackTraces = false) {this : Option Nat} {M : zzM} {mc ms : Nat} {K : Option Value → zzM → Prop} {X : Nat → Nat → zzM → Prop} (hw : wp_X6_read Z this M mc ms K X) : zz_Met Z l yX6_read (zz_ws yX6_read cX6_read 3 (some (.object "java/util/List")) none) 72 [va_rf this] M mc ms K X := by
  refine zz_ofW hl (plainFor_of_name (by decide)) (by simp only [zz_sl0, zz_slI, zz_slJ, zz_slA] <;> decide) (fun G hZ hll C E hH hR hin => ?_)
  subst hZ
  subst hll
  rw [show lv_args 0 [va_rf this] = [(0, va_rf this)] by simp only [zz_la0, zz_laI, zz_laJ, zz_laA]]
  unfold wp_X6_read at hw
  refine zz_new (r := (zR_18, zT_18, 3)) C dX6_read_0 rfl (by decide) q864 q171 zl_java_util_ArrayList rfl hw (fun q1 M2 bc3 bs4 hw => ?_)
  refine zz_dup C dX6_read_3 (zz_cat _) ?_
  refine zz_callI (As := []) (rest := [va_rf (some q1)]) (mc := 0) (ms := 0) C hR rfl dX6_read_4 (Or.inl q865) q173 zl_java_util_ArrayList zk_J2_init rfl zy_J2_init (by decide) (by decide) (ok_J2_init (zz_hl C) hw) (Nat.zero_le _) (Nat.zero_le _) (zz_cat10 _ (Nat.le_of_ble_eq_true rfl)) (fun r5 M6 hw => zz_kV hw (fun hw => ?_)) (fun _ _ _ h9 => h9.elim) rfl
  refine zz_astore_n (i := 1) (lv' := [(1, va_rf (some q1)), (0, va_rf this)]) C dX6_read_7 rfl (by decide) (by simp [zz_cat, zz_catI, zz_catJ, zz_catD]) ?_
  refine zz_subP [1, 0] rfl ?_
  obtain ⟨n8, hw⟩ := hw
  exact ok_X6_read_L8 C E hH hR n8 _ _ _ _ _ hw
abbrev cX19_init : ByteArray := prog_18_method_1_code
def yX19_init : MethodName := ⟨"DebateHall$Speaker", "<init>", "(ILjava/lang/String;I)V"⟩
def dkwX19_init_0 : List UInt8 := [42, 183, 0, 1, 42, 27, 181, 0, 7, 42, 44, 181, 0, 13, 42, 29, 181, 0, 17, 177]
abbrev dktX19_init_0 : List UInt8 := dkwX19_init_0 ++ []
theorem dksX19_init_0 : cX19_init.data.toList.drop 0 = dktX19_init_0 := by decide +kernel
theorem dX19_init_0 : decode cX19_init 0 = .ok (.aload_n 0, 1) := dk_42 (dk_at dksX19_init_0 0 rfl rfl)
theorem dX19_init_1 : decode cX19_init 1 = .ok (.invokespecial 1, 3) := dk_183 0 1 (dk_at dksX19_init_0 1 rfl rfl)
theorem dX19_init_4 : decode cX19_init 4 = .ok (.aload_n 0, 1) := dk_42 (dk_at dksX19_init_0 4 rfl rfl)
theorem dX19_init_5 : decode cX19_init 5 = .ok (.iload_n 1, 1) := dk_27 (dk_at dksX19_init_0 5 rfl rfl)
theorem dX19_init_6 : decode cX19_init 6 = .ok (.putfield 7, 3) := dk_181 0 7 (dk_at dksX19_init_0 6 rfl rfl)
theorem dX19_init_9 : decode cX19_init 9 = .ok (.aload_n 0, 1) := dk_42 (dk_at dksX19_init_0 9 rfl rfl)
theorem dX19_init_10 : decode cX19_init 10 = .ok (.aload_n 2, 1) := dk_44 (dk_at dksX19_init_0 10 rfl rfl)
theorem dX19_init_11 : decode cX19_init 11 = .ok (.putfield 13, 3) := dk_181 0 13 (dk_at dksX19_init_0 11 rfl rfl)
theorem dX19_init_14 : decode cX19_init 14 = .ok (.aload_n 0, 1) := dk_42 (dk_at dksX19_init_0 14 rfl rfl)
theorem dX19_init_15 : decode cX19_init 15 = .ok (.iload_n 3, 1) := dk_29 (dk_at dksX19_init_0 15 rfl rfl)
theorem dX19_init_16 : decode cX19_init 16 = .ok (.putfield 17, 3) := dk_181 0 17 (dk_at dksX19_init_0 16 rfl rfl)
theorem dX19_init_19 : decode cX19_init 19 = .ok (.return_, 1) := dk_177 (dk_at dksX19_init_0 19 rfl rfl)
theorem q1195 : (Jvm.Cond.methodLink "DebateHall$Speaker" (1 : Nat) ({ cls := "java/lang/Object", name := "<init>", desc := "()V" } : Jvm.MethodName)) ∈ lw_all := lw_g (lw_at lw_m5 155 rfl) rfl
theorem zf_14_0_teHall_Speaker : zz_fok [14] 0 "DebateHall$Speaker" "number" "I" := zz_fok1 (zR_14, zT_14, 3) rfl (by decide) rfl rfl (Or.inl rfl)
theorem q1196 : (Jvm.Cond.fieldLink "DebateHall$Speaker" (7 : Nat) "DebateHall$Speaker" "number" "I") ∈ lw_all := lw_g (lw_at lw_m5 156 rfl) rfl
theorem zq_14_0 : zz_pokF [14] 0 "DebateHall$Speaker" := zz_pokF1 (zR_14, zT_14, 3) (by decide) rfl rfl rfl
theorem q1199 : (Jvm.Cond.fieldLink "DebateHall$Speaker" (13 : Nat) "DebateHall$Speaker" "name" "Ljava/lang/String;") ∈ lw_all := lw_g (lw_at lw_m5 159 rfl) rfl
theorem zq_14_1 : zz_pokF [14] 1 "DebateHall$Speaker" := zz_pokF1 (zR_14, zT_14, 3) (by decide) rfl rfl rfl
theorem q1202 : (Jvm.Cond.fieldLink "DebateHall$Speaker" (17 : Nat) "DebateHall$Speaker" "time" "I") ∈ lw_all := lw_g (lw_at lw_m5 162 rfl) rfl
def wp_X19_init (Z : zzG) (this : Option Nat) (p0 : Int32) (p1 : Option Nat) (p2 : Int32) (M : zzM) (K : Option Value → zzM → Prop) : Prop := zty Z M this fun _ => zput Z M this [14] 0 (.int p0) fun M1 => zput Z M1 this [14] 1 (va_rf p1) fun M2 => zput Z M2 this [14] 2 (.int p2) fun M3 => K none M3
theorem ok_X19_init {Z : zzG} {l : Launch} (hl : l.stackTraces = false) {this : Option Nat} {p0 : Int32} {p1 : Option Nat} {p2 : Int32} {M : zzM} {mc ms : Nat} {K : Option Value → zzM → Prop} (hw : wp_X19_init Z this p0 p1 p2 M K) : zz_Met Z l yX19_init (zz_ws yX19_init cX19_init 4 none none) 2 [va_rf this, .int p0, va_rf p1, .int p2] M mc ms K (fun _ _ _ => False) := by
  refine zz_ofW hl (plainFor_of_name (by decide)) (by simp only [zz_sl0, zz_slI, zz_slJ, zz_slA] <;> decide) (fun G hZ hll C E hH hR hin => ?_)
  subst hZ
  subst hll
  rw [show lv_args 0 [va_rf this, .int p0, va_rf p1, .int p2] = [(0, va_rf this), (1, .int p0), (2, va_rf p1), (3, .int p2)] by simp only [zz_la0, zz_laI, zz_laJ, zz_laA]]
  unfold wp_X19_init at hw
  refine zz_aload_n C dX19_init_0 rfl 0 rfl ?_
  obtain ⟨a9, t9, b9, fs9, hro, hL, hw⟩ := ztyS hw
  refine zz_objInit9 C hR (by decide) hro dX19_init_1 q1195 q146 q147 (zz_cat10 _ (Nat.le_of_ble_eq_true rfl)) ?_
  refine zz_aload_n C dX19_init_4 rfl 0 rfl ?_
  refine zz_iload_n C dX19_init_5 rfl 1 rfl ?_
  refine zz_putF C hin dX19_init_6 q1196 zf_14_0_teHall_Speaker zq_14_0 (zz_hn1 ⟨rfl, rfl⟩) hw (fun M1 hw => ?_)
  refine zz_aload_n C dX19_init_9 rfl 0 rfl ?_
  refine zz_aload_n C dX19_init_10 rfl 2 rfl ?_
  refine zz_putF C hin dX19_init_11 q1199 zf_14_1_teHall_Speaker zq_14_1 (zz_hn1 (zz_nA _ rfl p1)) hw (fun M2 hw => ?_)
  refine zz_aload_n C dX19_init_14 rfl 0 rfl ?_
  refine zz_iload_n C dX19_init_15 rfl 3 rfl ?_
  refine zz_put C dX19_init_16 (Or.inl q1202) zf_14_2_teHall_Speaker zp_14_2 (zz_hn1 ⟨rfl, rfl⟩) hw (fun M3 hw => ?_)
  exact zz_vret C E dX19_init_19 hw
abbrev cJ15_signedHashCode : ByteArray := prog_78_method_5_code
def yJ15_signedHashCode : MethodName := ⟨"jdk/internal/util/ArraysSupport", "signedHashCode", "(I[BII)I"⟩
def dkwJ15_signedHashCode_1 : List UInt8 := [17, 0, 255, 126, 96, 59, 132, 5, 1, 167, 255, 232, 26, 172]
abbrev dktJ15_signedHashCode_1 : List UInt8 := dkwJ15_signedHashCode_1 ++ []
def dkwJ15_signedHashCode_0 : List UInt8 := [28, 29, 96, 54, 4, 28, 54, 5, 21, 5, 21, 4, 162, 0, 23, 16, 31, 26, 104, 43, 21, 5, 51]
abbrev dktJ15_signedHashCode_0 : List UInt8 := dkwJ15_signedHashCode_0 ++ dktJ15_signedHashCode_1
theorem dksJ15_signedHashCode_0 : cJ15_signedHashCode.data.toList.drop 0 = dktJ15_signedHashCode_0 := by decide +kernel
theorem dksJ15_signedHashCode_1 : cJ15_signedHashCode.data.toList.drop 23 = dktJ15_signedHashCode_1 := dk_seg dksJ15_signedHashCode_0 23 rfl rfl
theorem dJ15_signedHashCode_0 : decode cJ15_signedHashCode 0 = .ok (.iload_n 2, 1) := dk_28 (dk_at dksJ15_signedHashCode_0 0 rfl rfl)
theorem dJ15_signedHashCode_1 : decode cJ15_signedHashCode 1 = .ok (.iload_n 3, 1) := dk_29 (dk_at dksJ15_signedHashCode_0 1 rfl rfl)
theorem dJ15_signedHashCode_2 : decode cJ15_signedHashCode 2 = .ok (.iadd, 1) := dk_96 (dk_at dksJ15_signedHashCode_0 2 rfl rfl)
theorem dJ15_signedHashCode_3 : decode cJ15_signedHashCode 3 = .ok (.istore 4, 2) := dk_54 4 (dk_at dksJ15_signedHashCode_0 3 rfl rfl)
theorem dJ15_signedHashCode_5 : decode cJ15_signedHashCode 5 = .ok (.iload_n 2, 1) := dk_28 (dk_at dksJ15_signedHashCode_0 5 rfl rfl)
theorem dJ15_signedHashCode_6 : decode cJ15_signedHashCode 6 = .ok (.istore 5, 2) := dk_54 5 (dk_at dksJ15_signedHashCode_0 6 rfl rfl)
theorem dJ15_signedHashCode_8 : decode cJ15_signedHashCode 8 = .ok (.iload 5, 2) := dk_21 5 (dk_at dksJ15_signedHashCode_0 8 rfl rfl)
theorem dJ15_signedHashCode_10 : decode cJ15_signedHashCode 10 = .ok (.iload 4, 2) := dk_21 4 (dk_at dksJ15_signedHashCode_0 10 rfl rfl)
theorem dJ15_signedHashCode_12 : decode cJ15_signedHashCode 12 = .ok (.if_icmp .ge 23, 3) := dk_162 0 23 (dk_at dksJ15_signedHashCode_0 12 rfl rfl)
theorem dJ15_signedHashCode_15 : decode cJ15_signedHashCode 15 = .ok (.bipush 31, 2) := dk_16 31 (dk_at dksJ15_signedHashCode_0 15 rfl rfl)
theorem dJ15_signedHashCode_17 : decode cJ15_signedHashCode 17 = .ok (.iload_n 0, 1) := dk_26 (dk_at dksJ15_signedHashCode_0 17 rfl rfl)
theorem dJ15_signedHashCode_18 : decode cJ15_signedHashCode 18 = .ok (.imul, 1) := dk_104 (dk_at dksJ15_signedHashCode_0 18 rfl rfl)
theorem dJ15_signedHashCode_19 : decode cJ15_signedHashCode 19 = .ok (.aload_n 1, 1) := dk_43 (dk_at dksJ15_signedHashCode_0 19 rfl rfl)
theorem dJ15_signedHashCode_20 : decode cJ15_signedHashCode 20 = .ok (.iload 5, 2) := dk_21 5 (dk_at dksJ15_signedHashCode_0 20 rfl rfl)
theorem dJ15_signedHashCode_22 : decode cJ15_signedHashCode 22 = .ok (.baload, 1) := dk_51 (dk_at dksJ15_signedHashCode_0 22 rfl rfl)
theorem dJ15_signedHashCode_23 : decode cJ15_signedHashCode 23 = .ok (.sipush 255, 3) := dk_17 0 255 (dk_at dksJ15_signedHashCode_1 0 rfl rfl)
theorem dJ15_signedHashCode_26 : decode cJ15_signedHashCode 26 = .ok (.iand, 1) := dk_126 (dk_at dksJ15_signedHashCode_1 3 rfl rfl)
theorem dJ15_signedHashCode_27 : decode cJ15_signedHashCode 27 = .ok (.iadd, 1) := dk_96 (dk_at dksJ15_signedHashCode_1 4 rfl rfl)
theorem dJ15_signedHashCode_28 : decode cJ15_signedHashCode 28 = .ok (.istore_n 0, 1) := dk_59 (dk_at dksJ15_signedHashCode_1 5 rfl rfl)
theorem dJ15_signedHashCode_29 : decode cJ15_signedHashCode 29 = .ok (.iinc 5 1, 3) := dk_132 5 1 (dk_at dksJ15_signedHashCode_1 6 rfl rfl)
theorem dJ15_signedHashCode_32 : decode cJ15_signedHashCode 32 = .ok (.goto (-24), 3) := dk_167 255 232 (dk_at dksJ15_signedHashCode_1 9 rfl rfl)
theorem dJ15_signedHashCode_35 : decode cJ15_signedHashCode 35 = .ok (.iload_n 0, 1) := dk_26 (dk_at dksJ15_signedHashCode_1 12 rfl rfl)
theorem dJ15_signedHashCode_36 : decode cJ15_signedHashCode 36 = .ok (.ireturn, 1) := dk_172 (dk_at dksJ15_signedHashCode_1 13 rfl rfl)
def wp_J15_signedHashCode_L8 (Z : zzG) (K : Option Value → zzM → Prop) : Nat → Int32 → Option Nat → Int32 → Int32 → zzM → Prop
  | 0, _, _, _, _, _ => False
  | n + 1, v0, v1, v4, v5, M => if v4 ≤ v5 then (K (some (.int v0)) M) else (zaI Z M v1 [101] v5 fun x1 => wp_J15_signedHashCode_L8 Z K n (((31 : Int32) * v0) + (x1 &&& (255 : Int32))) v1 v4 (v5 + 1) M)
def wp_J15_signedHashCode (Z : zzG) (p0 : Int32) (p1 : Option Nat) (p2 : Int32) (p3 : Int32) (M : zzM) (K : Option Value → zzM → Prop) : Prop := ∃ n8 : Nat, wp_J15_signedHashCode_L8 Z K n8 p0 p1 (p2 + p3) p2 M
theorem ok_J15_signedHashCode_L8 {G : zzX} (C : zz_C G cJ15_signedHashCode "jdk/internal/util/ArraysSupport" 6) {K : Option Value → zzM → Prop} (E : zz_E G (some .int) K (fun _ _ _ => False)) (hH : zz_H G []) (hR : zz_Rm G 1) : ∀ (n : Nat) (v0 : Int32) (v1 : Option Nat) (v4 : Int32) (v5 : Int32) (M : zzM) (bc bs : Nat), wp_J15_signedHashCode_L8 (zz_Zof G) K n v0 v1 v4 v5 M → zz_T G 6 M bc bs 8 [(0, .int v0), (1, va_rf v1), (4, .int v4), (5, .int v5)] [] := by
  intro n
  induction n with
  | zero =>
    intro v0 v1 v4 v5 M bc bs hw
    exact False.elim hw
  | succ n ih =>
    intro v0 v1 v4 v5 M bc bs hw
    refine zz_iload C dJ15_signedHashCode_8 3 rfl ?_
    refine zz_iload C dJ15_signedHashCode_10 2 rfl ?_
    refine zz_icmp_ge (tgt := 35) C dJ15_signedHashCode_12 (by decide) hw (fun hw => ?_) (fun hw => ?_)
    · refine zz_iload_n C dJ15_signedHashCode_35 rfl 0 rfl ?_
      exact zz_iret C E dJ15_signedHashCode_36 hw
    · refine zz_bipush (v := (31 : Int32)) C dJ15_signedHashCode_15 (by decide) ?_
      refine zz_iload_n C dJ15_signedHashCode_17 rfl 0 rfl ?_
      refine zz_imul C dJ15_signedHashCode_18 ?_
      refine zz_aload_n C dJ15_signedHashCode_19 rfl 1 rfl ?_
      refine zz_iload C dJ15_signedHashCode_20 3 rfl ?_
      refine zz_bald C dJ15_signedHashCode_22 hw (fun x1 hw => ?_)
      refine zz_sipush (v := (255 : Int32)) C dJ15_signedHashCode_23 (by decide) ?_
      refine zz_iand C dJ15_signedHashCode_26 ?_
      refine zz_iadd C dJ15_signedHashCode_27 ?_
      refine zz_istore_n (i := 0) (lv' := [(0, .int (((31 : Int32) * v0) + (x1 &&& (255 : Int32)))), (1, va_rf v1), (4, .int v4), (5, .int v5)]) C dJ15_signedHashCode_28 rfl (by decide) rfl ?_
      refine zz_iinc (lv' := [(5, .int (v5 + 1)), (0, .int (((31 : Int32) * v0) + (x1 &&& (255 : Int32)))), (1, va_rf v1), (4, .int v4)]) C dJ15_signedHashCode_29 3 rfl (by rfl) (by decide) rfl ?_
      refine zz_goto (tgt := 8) C dJ15_signedHashCode_32 (by decide) ?_
      refine zz_subP [1, 2, 3, 0] rfl ?_
      exact ih _ _ _ _ _ _ _ hw
theorem ok_J15_signedHashCode {Z : zzG} {l : Launch} (hl : l.stackTraces = false) {p0 : Int32} {p1 : Option Nat} {p2 : Int32} {p3 : Int32} {M : zzM} {mc ms : Nat} {K : Option Value → zzM → Prop} (hw : wp_J15_signedHashCode Z p0 p1 p2 p3 M K) : zz_Met Z l yJ15_signedHashCode (zz_ws yJ15_signedHashCode cJ15_signedHashCode 6 (some .int) none) 1 [.int p0, va_rf p1, .int p2, .int p3] M mc ms K (fun _ _ _ => False) := by
  refine zz_ofW hl (plainFor_of_name (by decide)) (by simp only [zz_sl0, zz_slI, zz_slJ, zz_slA] <;> decide) (fun G hZ hll C E hH hR hin => ?_)
  subst hZ
  subst hll
  rw [show lv_args 0 [.int p0, va_rf p1, .int p2, .int p3] = [(0, .int p0), (1, va_rf p1), (2, .int p2), (3, .int p3)] by simp only [zz_la0, zz_laI, zz_laJ, zz_laA]]
  unfold wp_J15_signedHashCode at hw
  refine zz_iload_n C dJ15_signedHashCode_0 rfl 2 rfl ?_
  refine zz_iload_n C dJ15_signedHashCode_1 rfl 3 rfl ?_
  refine zz_iadd C dJ15_signedHashCode_2 ?_
  refine zz_istore (lv' := [(4, .int (p2 + p3)), (0, .int p0), (1, va_rf p1), (2, .int p2), (3, .int p3)]) C dJ15_signedHashCode_3 (by decide) rfl ?_
  refine zz_iload_n C dJ15_signedHashCode_5 rfl 3 rfl ?_
  refine zz_istore (lv' := [(5, .int p2), (4, .int (p2 + p3)), (0, .int p0), (1, va_rf p1), (2, .int p2), (3, .int p3)]) C dJ15_signedHashCode_6 (by decide) rfl ?_
  refine zz_subP [2, 3, 1, 0] rfl ?_
  obtain ⟨n8, hw⟩ := hw
  exact ok_J15_signedHashCode_L8 C E hH hR n8 _ _ _ _ _ _ _ hw
abbrev cJ15_vectorizedHashCode : ByteArray := prog_78_method_4_code
def yJ15_vectorizedHashCode : MethodName := ⟨"jdk/internal/util/ArraysSupport", "vectorizedHashCode", "(Ljava/lang/Object;IIII)I"⟩
def dkwJ15_vectorizedHashCode_6 : List UInt8 := [183, 0, 91, 18, 92, 182, 0, 94, 21, 4, 182, 0, 98, 182, 0, 101, 183, 0, 105, 191, 172]
abbrev dktJ15_vectorizedHashCode_6 : List UInt8 := dkwJ15_vectorizedHashCode_6 ++ []
def dkwJ15_vectorizedHashCode_5 : List UInt8 := [167, 0, 44, 29, 42, 192, 0, 82, 27, 28, 184, 0, 84, 167, 0, 31, 187, 0, 87, 89, 187, 0, 89, 89]
abbrev dktJ15_vectorizedHashCode_5 : List UInt8 := dkwJ15_vectorizedHashCode_5 ++ dktJ15_vectorizedHashCode_6
def dkwJ15_vectorizedHashCode_4 : List UInt8 := [29, 42, 192, 0, 60, 27, 28, 184, 0, 75, 167, 0, 57, 29, 42, 192, 0, 77, 27, 28, 184, 0, 79]
abbrev dktJ15_vectorizedHashCode_4 : List UInt8 := dkwJ15_vectorizedHashCode_4 ++ dktJ15_vectorizedHashCode_5
def dkwJ15_vectorizedHashCode_3 : List UInt8 := [192, 0, 60, 27, 28, 184, 0, 66, 167, 0, 83, 29, 42, 192, 0, 69, 27, 28, 184, 0, 71, 167, 0, 70]
abbrev dktJ15_vectorizedHashCode_3 : List UInt8 := dkwJ15_vectorizedHashCode_3 ++ dktJ15_vectorizedHashCode_4
def dkwJ15_vectorizedHashCode_2 : List UInt8 := [29, 42, 192, 0, 60, 27, 28, 184, 0, 62, 167, 0, 103, 42, 193, 0, 60, 153, 0, 16, 29, 42]
abbrev dktJ15_vectorizedHashCode_2 : List UInt8 := dkwJ15_vectorizedHashCode_2 ++ dktJ15_vectorizedHashCode_3
def dkwJ15_vectorizedHashCode_1 : List UInt8 := [170, 0, 0, 0, 0, 127, 0, 0, 0, 4, 0, 0, 0, 10, 0, 0, 0, 42, 0, 0, 0, 55, 0, 0, 0, 127, 0, 0, 0, 127, 0, 0, 0, 88, 0, 0, 0, 101, 0, 0, 0, 114]
abbrev dktJ15_vectorizedHashCode_1 : List UInt8 := dkwJ15_vectorizedHashCode_1 ++ dktJ15_vectorizedHashCode_2
def dkwJ15_vectorizedHashCode_0 : List UInt8 := [21, 4]
abbrev dktJ15_vectorizedHashCode_0 : List UInt8 := dkwJ15_vectorizedHashCode_0 ++ dktJ15_vectorizedHashCode_1
theorem dksJ15_vectorizedHashCode_0 : cJ15_vectorizedHashCode.data.toList.drop 0 = dktJ15_vectorizedHashCode_0 := by decide +kernel
theorem dksJ15_vectorizedHashCode_1 : cJ15_vectorizedHashCode.data.toList.drop 2 = dktJ15_vectorizedHashCode_1 := dk_seg dksJ15_vectorizedHashCode_0 2 rfl rfl
theorem dksJ15_vectorizedHashCode_2 : cJ15_vectorizedHashCode.data.toList.drop 44 = dktJ15_vectorizedHashCode_2 := dk_seg dksJ15_vectorizedHashCode_1 42 rfl rfl
theorem dksJ15_vectorizedHashCode_3 : cJ15_vectorizedHashCode.data.toList.drop 66 = dktJ15_vectorizedHashCode_3 := dk_seg dksJ15_vectorizedHashCode_2 22 rfl rfl
theorem dksJ15_vectorizedHashCode_4 : cJ15_vectorizedHashCode.data.toList.drop 90 = dktJ15_vectorizedHashCode_4 := dk_seg dksJ15_vectorizedHashCode_3 24 rfl rfl
theorem dksJ15_vectorizedHashCode_5 : cJ15_vectorizedHashCode.data.toList.drop 113 = dktJ15_vectorizedHashCode_5 := dk_seg dksJ15_vectorizedHashCode_4 23 rfl rfl
theorem dksJ15_vectorizedHashCode_6 : cJ15_vectorizedHashCode.data.toList.drop 137 = dktJ15_vectorizedHashCode_6 := dk_seg dksJ15_vectorizedHashCode_5 24 rfl rfl
theorem dJ15_vectorizedHashCode_0 : decode cJ15_vectorizedHashCode 0 = .ok (.iload 4, 2) := dk_21 4 (dk_at dksJ15_vectorizedHashCode_0 0 rfl rfl)
theorem dJ15_vectorizedHashCode_2 : decode cJ15_vectorizedHashCode 2 = .ok (.tableswitch 127 4 10 #[42, 55, 127, 127, 88, 101, 114], 42) := by decide +kernel
theorem dJ15_vectorizedHashCode_44 : decode cJ15_vectorizedHashCode 44 = .ok (.iload_n 3, 1) := dk_29 (dk_at dksJ15_vectorizedHashCode_2 0 rfl rfl)
theorem dJ15_vectorizedHashCode_45 : decode cJ15_vectorizedHashCode 45 = .ok (.aload_n 0, 1) := dk_42 (dk_at dksJ15_vectorizedHashCode_2 1 rfl rfl)
theorem dJ15_vectorizedHashCode_46 : decode cJ15_vectorizedHashCode 46 = .ok (.checkcast 60, 3) := dk_192 0 60 (dk_at dksJ15_vectorizedHashCode_2 2 rfl rfl)
theorem dJ15_vectorizedHashCode_49 : decode cJ15_vectorizedHashCode 49 = .ok (.iload_n 1, 1) := dk_27 (dk_at dksJ15_vectorizedHashCode_2 5 rfl rfl)
theorem dJ15_vectorizedHashCode_50 : decode cJ15_vectorizedHashCode 50 = .ok (.iload_n 2, 1) := dk_28 (dk_at dksJ15_vectorizedHashCode_2 6 rfl rfl)
theorem dJ15_vectorizedHashCode_51 : decode cJ15_vectorizedHashCode 51 = .ok (.invokestatic 62, 3) := dk_184 0 62 (dk_at dksJ15_vectorizedHashCode_2 7 rfl rfl)
theorem dJ15_vectorizedHashCode_54 : decode cJ15_vectorizedHashCode 54 = .ok (.goto 103, 3) := dk_167 0 103 (dk_at dksJ15_vectorizedHashCode_2 10 rfl rfl)
theorem dJ15_vectorizedHashCode_57 : decode cJ15_vectorizedHashCode 57 = .ok (.aload_n 0, 1) := dk_42 (dk_at dksJ15_vectorizedHashCode_2 13 rfl rfl)
theorem dJ15_vectorizedHashCode_58 : decode cJ15_vectorizedHashCode 58 = .ok (.instanceof 60, 3) := dk_193 0 60 (dk_at dksJ15_vectorizedHashCode_2 14 rfl rfl)
theorem dJ15_vectorizedHashCode_61 : decode cJ15_vectorizedHashCode 61 = .ok (.ifCond .eq 16, 3) := dk_153 0 16 (dk_at dksJ15_vectorizedHashCode_2 17 rfl rfl)
theorem dJ15_vectorizedHashCode_64 : decode cJ15_vectorizedHashCode 64 = .ok (.iload_n 3, 1) := dk_29 (dk_at dksJ15_vectorizedHashCode_2 20 rfl rfl)
theorem dJ15_vectorizedHashCode_65 : decode cJ15_vectorizedHashCode 65 = .ok (.aload_n 0, 1) := dk_42 (dk_at dksJ15_vectorizedHashCode_2 21 rfl rfl)
theorem dJ15_vectorizedHashCode_66 : decode cJ15_vectorizedHashCode 66 = .ok (.checkcast 60, 3) := dk_192 0 60 (dk_at dksJ15_vectorizedHashCode_3 0 rfl rfl)
theorem dJ15_vectorizedHashCode_69 : decode cJ15_vectorizedHashCode 69 = .ok (.iload_n 1, 1) := dk_27 (dk_at dksJ15_vectorizedHashCode_3 3 rfl rfl)
theorem dJ15_vectorizedHashCode_70 : decode cJ15_vectorizedHashCode 70 = .ok (.iload_n 2, 1) := dk_28 (dk_at dksJ15_vectorizedHashCode_3 4 rfl rfl)
theorem dJ15_vectorizedHashCode_71 : decode cJ15_vectorizedHashCode 71 = .ok (.invokestatic 66, 3) := dk_184 0 66 (dk_at dksJ15_vectorizedHashCode_3 5 rfl rfl)
theorem dJ15_vectorizedHashCode_77 : decode cJ15_vectorizedHashCode 77 = .ok (.iload_n 3, 1) := dk_29 (dk_at dksJ15_vectorizedHashCode_3 11 rfl rfl)
theorem dJ15_vectorizedHashCode_78 : decode cJ15_vectorizedHashCode 78 = .ok (.aload_n 0, 1) := dk_42 (dk_at dksJ15_vectorizedHashCode_3 12 rfl rfl)
theorem dJ15_vectorizedHashCode_79 : decode cJ15_vectorizedHashCode 79 = .ok (.checkcast 69, 3) := dk_192 0 69 (dk_at dksJ15_vectorizedHashCode_3 13 rfl rfl)
theorem dJ15_vectorizedHashCode_90 : decode cJ15_vectorizedHashCode 90 = .ok (.iload_n 3, 1) := dk_29 (dk_at dksJ15_vectorizedHashCode_4 0 rfl rfl)
theorem dJ15_vectorizedHashCode_91 : decode cJ15_vectorizedHashCode 91 = .ok (.aload_n 0, 1) := dk_42 (dk_at dksJ15_vectorizedHashCode_4 1 rfl rfl)
theorem dJ15_vectorizedHashCode_92 : decode cJ15_vectorizedHashCode 92 = .ok (.checkcast 60, 3) := dk_192 0 60 (dk_at dksJ15_vectorizedHashCode_4 2 rfl rfl)
theorem dJ15_vectorizedHashCode_95 : decode cJ15_vectorizedHashCode 95 = .ok (.iload_n 1, 1) := dk_27 (dk_at dksJ15_vectorizedHashCode_4 5 rfl rfl)
theorem dJ15_vectorizedHashCode_96 : decode cJ15_vectorizedHashCode 96 = .ok (.iload_n 2, 1) := dk_28 (dk_at dksJ15_vectorizedHashCode_4 6 rfl rfl)
theorem dJ15_vectorizedHashCode_97 : decode cJ15_vectorizedHashCode 97 = .ok (.invokestatic 75, 3) := dk_184 0 75 (dk_at dksJ15_vectorizedHashCode_4 7 rfl rfl)
theorem dJ15_vectorizedHashCode_103 : decode cJ15_vectorizedHashCode 103 = .ok (.iload_n 3, 1) := dk_29 (dk_at dksJ15_vectorizedHashCode_4 13 rfl rfl)
theorem dJ15_vectorizedHashCode_104 : decode cJ15_vectorizedHashCode 104 = .ok (.aload_n 0, 1) := dk_42 (dk_at dksJ15_vectorizedHashCode_4 14 rfl rfl)
theorem dJ15_vectorizedHashCode_105 : decode cJ15_vectorizedHashCode 105 = .ok (.checkcast 77, 3) := dk_192 0 77 (dk_at dksJ15_vectorizedHashCode_4 15 rfl rfl)
theorem dJ15_vectorizedHashCode_116 : decode cJ15_vectorizedHashCode 116 = .ok (.iload_n 3, 1) := dk_29 (dk_at dksJ15_vectorizedHashCode_5 3 rfl rfl)
theorem dJ15_vectorizedHashCode_117 : decode cJ15_vectorizedHashCode 117 = .ok (.aload_n 0, 1) := dk_42 (dk_at dksJ15_vectorizedHashCode_5 4 rfl rfl)
theorem dJ15_vectorizedHashCode_118 : decode cJ15_vectorizedHashCode 118 = .ok (.checkcast 82, 3) := dk_192 0 82 (dk_at dksJ15_vectorizedHashCode_5 5 rfl rfl)
theorem dJ15_vectorizedHashCode_121 : decode cJ15_vectorizedHashCode 121 = .ok (.iload_n 1, 1) := dk_27 (dk_at dksJ15_vectorizedHashCode_5 8 rfl rfl)
theorem dJ15_vectorizedHashCode_122 : decode cJ15_vectorizedHashCode 122 = .ok (.iload_n 2, 1) := dk_28 (dk_at dksJ15_vectorizedHashCode_5 9 rfl rfl)
theorem dJ15_vectorizedHashCode_123 : decode cJ15_vectorizedHashCode 123 = .ok (.invokestatic 84, 3) := dk_184 0 84 (dk_at dksJ15_vectorizedHashCode_5 10 rfl rfl)
theorem dJ15_vectorizedHashCode_129 : decode cJ15_vectorizedHashCode 129 = .ok (.new 87, 3) := dk_187 0 87 (dk_at dksJ15_vectorizedHashCode_5 16 rfl rfl)
theorem dJ15_vectorizedHashCode_157 : decode cJ15_vectorizedHashCode 157 = .ok (.ireturn, 1) := dk_172 (dk_at dksJ15_vectorizedHashCode_6 20 rfl rfl)
theorem q1269 : (Jvm.Cond.classLink "jdk/internal/util/ArraysSupport" (60 : Nat) "[B") ∈ lw_all := lw_g (lw_at lw_m5 229 rfl) rfl
theorem q1272 : (Jvm.Cond.code ({ cls := "jdk/internal/util/ArraysSupport", name := "signedHashCode", desc := "(I[BII)I" } : Jvm.MethodName) prog_78_method_5_code (6 : Nat) (Option.some Jvm.ClassFile.FieldType.int)) ∈ lw_all := lw_g (lw_at lw_m5 232 rfl) rfl
theorem zk_J15_signedHashCode : zz_cd yJ15_signedHashCode cJ15_signedHashCode 6 (some .int) none ∈ lw_all := q1272
theorem zy_J15_signedHashCode : zz_yok yJ15_signedHashCode 4 = true := by decide +kernel
theorem q1270 : (Jvm.Cond.methodLink "jdk/internal/util/ArraysSupport" (62 : Nat) ({ cls := "jdk/internal/util/ArraysSupport", name := "signedHashCode", desc := "(I[BII)I" } : Jvm.MethodName)) ∈ lw_all := lw_g (lw_at lw_m5 230 rfl) rfl
theorem q1271 : (Jvm.Cond.static ({ cls := "jdk/internal/util/ArraysSupport", name := "signedHashCode", desc := "(I[BII)I" } : Jvm.MethodName)) ∈ lw_all := lw_g (lw_at lw_m5 231 rfl) rfl
theorem zc___B : zz_cok [] "[B" := fun _ ht => absurd ht List.not_mem_nil
theorem zn_21_24_25__B : zz_nok [21, 24, 25] "[B" := by
  intro t ht
  simp only [List.mem_cons, List.not_mem_nil, or_false] at ht
  rcases ht with rfl | rfl | rfl
  · exact ⟨(zR_21, zT_21, 4), rfl, by decide +kernel⟩
  · exact ⟨(zR_24, zT_24, 4), rfl, by decide +kernel⟩
  · exact ⟨(zR_25, zT_25, 11), rfl, by decide +kernel⟩
theorem q1300 : (Jvm.Cond.classLink "jdk/internal/util/ArraysSupport" (82 : Nat) "[I") ∈ lw_all := lw_g (lw_at lw_m6 20 rfl) rfl
def wp_J15_vectorizedHashCode_B129 (Z : zzG) (K : Option Value → zzM → Prop) (M : zzM) : Prop := False
def wp_J15_vectorizedHashCode (Z : zzG) (p0 : Option Nat) (p1 : Int32) (p2 : Int32) (p3 : Int32) (p4 : Int32) (M : zzM) (K : Option Value → zzM → Prop) : Prop := if p4 = (4 : Int32) then (zcastA Z M p0 101 <| wp_J15_signedHashCode Z p3 p0 p1 p2 M (fun r1 M2 => zrI r1 fun x5 => K (some (.int x5)) M2)) else if p4 = (5 : Int32) then (zinst Z M p0 [] [21, 24, 25] fun x6 => if x6 = 0 then (False) else (zcastA Z M p0 101 <| False)) else if p4 = (8 : Int32) then (zcastA Z M p0 101 <| False) else if p4 = (9 : Int32) then (False) else if p4 = (10 : Int32) then (zcastA Z M p0 100 <| False) else (wp_J15_vectorizedHashCode_B129 Z K M)
theorem ok_J15_vectorizedHashCode_B129 {G : zzX} (C : zz_C G cJ15_vectorizedHashCode "jdk/internal/util/ArraysSupport" 5) {K : Option Value → zzM → Prop} (E : zz_E G (some .int) K (fun _ _ _ => False)) (hH : zz_H G []) (hR : zz_Rm G 2) {M : zzM} {bc bs : Nat} (hw : wp_J15_vectorizedHashCode_B129 (zz_Zof G) K M) : zz_T G 5 M bc bs 129 [] [] := by
  unfold wp_J15_vectorizedHashCode_B129 at hw
  exact hw.elim
theorem ok_J15_vectorizedHashCode {Z : zzG} {l : Launch} (hl : l.stackTraces = false) {p0 : Option Nat} {p1 : Int32} {p2 : Int32} {p3 : Int32} {p4 : Int32} {M : zzM} {mc ms : Nat} {K : Option Value → zzM → Prop} (hw : wp_J15_vectorizedHashCode Z p0 p1 p2 p3 p4 M K) : zz_Met Z l yJ15_vectorizedHashCode (zz_ws yJ15_vectorizedHashCode cJ15_vectorizedHashCode 5 (some .int) none) 2 [va_rf p0, .int p1, .int p2, .int p3, .int p4] M mc ms K (fun _ _ _ => False) := by
  refine zz_ofW hl (plainFor_of_name (by decide)) (by simp only [zz_sl0, zz_slI, zz_slJ, zz_slA] <;> decide) (fun G hZ hll C E hH hR hin => ?_)
  subst hZ
  subst hll
  rw [show lv_args 0 [va_rf p0, .int p1, .int p2, .int p3, .int p4] = [(0, va_rf p0), (1, .int p1), (2, .int p2), (3, .int p3), (4, .int p4)] by simp only [zz_la0, zz_laI, zz_laJ, zz_laA]]
  unfold wp_J15_vectorizedHashCode at hw
  refine zz_iload C dJ15_vectorizedHashCode_0 4 rfl ?_
  by_cases e0 : p4 = (4 : Int32)
  · replace hw := zz_ifp e0 hw
    refine zz_tin (j := 0) (off := 42) (tgt := 44) C dJ15_vectorizedHashCode_2 e0 (by decide) (by decide) (by decide) rfl (by decide) ?_
    refine zz_iload_n C dJ15_vectorizedHashCode_44 rfl 3 rfl ?_
    refine zz_aload_n C dJ15_vectorizedHashCode_45 rfl 0 rfl ?_
    refine zz_castA (t := 101) C dJ15_vectorizedHashCode_46 q1269 rfl (fun _ _ h9 => h9) hw (fun hw => ?_)
    refine zz_iload_n C dJ15_vectorizedHashCode_49 rfl 1 rfl ?_
    refine zz_iload_n C dJ15_vectorizedHashCode_50 rfl 2 rfl ?_
    refine zz_callS (As := [.int p3, va_rf p0, .int p1, .int p2]) (rest := []) (mc := 0) (ms := 0) C hR dJ15_vectorizedHashCode_51 (Or.inl q1270) q1271 zl_jdk_internal_util_ArraysSupport zk_J15_signedHashCode (Or.inl rfl) zy_J15_signedHashCode (by decide) (by decide) (ok_J15_signedHashCode (zz_hl C) hw) (Nat.zero_le _) (Nat.zero_le _) (zz_cat10 _ (Nat.le_of_ble_eq_true rfl)) (fun r1 M2 hw => zz_kI hw (fun x5 hw => ?_)) (fun _ _ _ h9 => h9.elim) rfl
    refine zz_goto (tgt := 157) C dJ15_vectorizedHashCode_54 (by decide) ?_
    exact zz_iret C E dJ15_vectorizedHashCode_157 hw
  · replace hw := zz_ifn e0 hw
    by_cases e1 : p4 = (5 : Int32)
    · replace hw := zz_ifp e1 hw
      refine zz_tin (j := 1) (off := 55) (tgt := 57) C dJ15_vectorizedHashCode_2 e1 (by decide) (by decide) (by decide) rfl (by decide) ?_
      refine zz_aload_n C dJ15_vectorizedHashCode_57 rfl 0 rfl ?_
      refine zz_inst C dJ15_vectorizedHashCode_58 q1269 zc___B zn_21_24_25__B hw (fun x6 hw => ?_)
      refine zz_if_eq (tgt := 77) C dJ15_vectorizedHashCode_61 (by decide) hw (fun hw => ?_) (fun hw => ?_)
      · refine zz_iload_n C dJ15_vectorizedHashCode_77 rfl 3 rfl ?_
        refine zz_aload_n C dJ15_vectorizedHashCode_78 rfl 0 rfl ?_
        exact hw.elim
      · refine zz_iload_n C dJ15_vectorizedHashCode_64 rfl 3 rfl ?_
        refine zz_aload_n C dJ15_vectorizedHashCode_65 rfl 0 rfl ?_
        refine zz_castA (t := 101) C dJ15_vectorizedHashCode_66 q1269 rfl (fun _ _ h9 => h9) hw (fun hw => ?_)
        refine zz_iload_n C dJ15_vectorizedHashCode_69 rfl 1 rfl ?_
        refine zz_iload_n C dJ15_vectorizedHashCode_70 rfl 2 rfl ?_
        exact hw.elim
    · replace hw := zz_ifn e1 hw
      by_cases e4 : p4 = (8 : Int32)
      · replace hw := zz_ifp e4 hw
        refine zz_tin (j := 4) (off := 88) (tgt := 90) C dJ15_vectorizedHashCode_2 e4 (by decide) (by decide) (by decide) rfl (by decide) ?_
        refine zz_iload_n C dJ15_vectorizedHashCode_90 rfl 3 rfl ?_
        refine zz_aload_n C dJ15_vectorizedHashCode_91 rfl 0 rfl ?_
        refine zz_castA (t := 101) C dJ15_vectorizedHashCode_92 q1269 rfl (fun _ _ h9 => h9) hw (fun hw => ?_)
        refine zz_iload_n C dJ15_vectorizedHashCode_95 rfl 1 rfl ?_
        refine zz_iload_n C dJ15_vectorizedHashCode_96 rfl 2 rfl ?_
        exact hw.elim
      · replace hw := zz_ifn e4 hw
        by_cases e5 : p4 = (9 : Int32)
        · replace hw := zz_ifp e5 hw
          refine zz_tin (j := 5) (off := 101) (tgt := 103) C dJ15_vectorizedHashCode_2 e5 (by decide) (by decide) (by decide) rfl (by decide) ?_
          refine zz_iload_n C dJ15_vectorizedHashCode_103 rfl 3 rfl ?_
          refine zz_aload_n C dJ15_vectorizedHashCode_104 rfl 0 rfl ?_
          exact hw.elim
        · replace hw := zz_ifn e5 hw
          by_cases e6 : p4 = (10 : Int32)
          · replace hw := zz_ifp e6 hw
            refine zz_tin (j := 6) (off := 114) (tgt := 116) C dJ15_vectorizedHashCode_2 e6 (by decide) (by decide) (by decide) rfl (by decide) ?_
            refine zz_iload_n C dJ15_vectorizedHashCode_116 rfl 3 rfl ?_
            refine zz_aload_n C dJ15_vectorizedHashCode_117 rfl 0 rfl ?_
            refine zz_castA (t := 100) C dJ15_vectorizedHashCode_118 q1300 rfl (fun _ _ h9 => h9) hw (fun hw => ?_)
            refine zz_iload_n C dJ15_vectorizedHashCode_121 rfl 1 rfl ?_
            refine zz_iload_n C dJ15_vectorizedHashCode_122 rfl 2 rfl ?_
            exact hw.elim
          · replace hw := zz_ifn e6 hw
            refine zz_tout (tgt := 129) C dJ15_vectorizedHashCode_2 (by decide) (by decide) (fun j hj => ?_) ?_
            · match j, hj with
              | 0, _ => exact Or.inl (zz_ne e0 (by decide))
              | 1, _ => exact Or.inl (zz_ne e1 (by decide))
              | 2, _ => exact Or.inr rfl
              | 3, _ => exact Or.inr rfl
              | 4, _ => exact Or.inl (zz_ne e4 (by decide))
              | 5, _ => exact Or.inl (zz_ne e5 (by decide))
              | 6, _ => exact Or.inl (zz_ne e6 (by decide))
              | n + 7, hj => exact absurd hj (Nat.not_lt.mpr (Nat.le_add_left _ _))
            · refine zz_subP [] rfl ?_
              exact ok_J15_vectorizedHashCode_B129 C E hH hR hw
abbrev cJ18_hashCode : ByteArray := prog_49_method_21_code
def yJ18_hashCode : MethodName := ⟨"java/lang/StringLatin1", "hashCode", "([B)I"⟩
def dkwJ18_hashCode_2 : List UInt8 := [3, 167, 0, 22, 42, 3, 51, 17, 0, 255, 126, 167, 0, 12, 42, 3, 42, 190, 3, 7, 184, 0, 84, 172]
abbrev dktJ18_hashCode_2 : List UInt8 := dkwJ18_hashCode_2 ++ []
def dkwJ18_hashCode_1 : List UInt8 := [171, 0, 0, 0, 0, 40, 0, 0, 0, 2, 0, 0, 0, 0, 0, 0, 0, 26, 0, 0, 0, 1, 0, 0, 0, 30]
abbrev dktJ18_hashCode_1 : List UInt8 := dkwJ18_hashCode_1 ++ dktJ18_hashCode_2
def dkwJ18_hashCode_0 : List UInt8 := [42, 190]
abbrev dktJ18_hashCode_0 : List UInt8 := dkwJ18_hashCode_0 ++ dktJ18_hashCode_1
theorem dksJ18_hashCode_0 : cJ18_hashCode.data.toList.drop 0 = dktJ18_hashCode_0 := by decide +kernel
theorem dksJ18_hashCode_1 : cJ18_hashCode.data.toList.drop 2 = dktJ18_hashCode_1 := dk_seg dksJ18_hashCode_0 2 rfl rfl
theorem dksJ18_hashCode_2 : cJ18_hashCode.data.toList.drop 28 = dktJ18_hashCode_2 := dk_seg dksJ18_hashCode_1 26 rfl rfl
theorem dJ18_hashCode_0 : decode cJ18_hashCode 0 = .ok (.aload_n 0, 1) := dk_42 (dk_at dksJ18_hashCode_0 0 rfl rfl)
theorem dJ18_hashCode_1 : decode cJ18_hashCode 1 = .ok (.arraylength, 1) := dk_190 (dk_at dksJ18_hashCode_0 1 rfl rfl)
theorem dJ18_hashCode_2 : decode cJ18_hashCode 2 = .ok (.lookupswitch 40 #[(0, 26), (1, 30)], 26) := by decide +kernel
theorem dJ18_hashCode_28 : decode cJ18_hashCode 28 = .ok (.iconst 0, 1) := dk_3 (dk_at dksJ18_hashCode_2 0 rfl rfl)
theorem dJ18_hashCode_29 : decode cJ18_hashCode 29 = .ok (.goto 22, 3) := dk_167 0 22 (dk_at dksJ18_hashCode_2 1 rfl rfl)
theorem dJ18_hashCode_32 : decode cJ18_hashCode 32 = .ok (.aload_n 0, 1) := dk_42 (dk_at dksJ18_hashCode_2 4 rfl rfl)
theorem dJ18_hashCode_33 : decode cJ18_hashCode 33 = .ok (.iconst 0, 1) := dk_3 (dk_at dksJ18_hashCode_2 5 rfl rfl)
theorem dJ18_hashCode_34 : decode cJ18_hashCode 34 = .ok (.baload, 1) := dk_51 (dk_at dksJ18_hashCode_2 6 rfl rfl)
theorem dJ18_hashCode_35 : decode cJ18_hashCode 35 = .ok (.sipush 255, 3) := dk_17 0 255 (dk_at dksJ18_hashCode_2 7 rfl rfl)
theorem dJ18_hashCode_38 : decode cJ18_hashCode 38 = .ok (.iand, 1) := dk_126 (dk_at dksJ18_hashCode_2 10 rfl rfl)
theorem dJ18_hashCode_39 : decode cJ18_hashCode 39 = .ok (.goto 12, 3) := dk_167 0 12 (dk_at dksJ18_hashCode_2 11 rfl rfl)
theorem dJ18_hashCode_42 : decode cJ18_hashCode 42 = .ok (.aload_n 0, 1) := dk_42 (dk_at dksJ18_hashCode_2 14 rfl rfl)
theorem dJ18_hashCode_43 : decode cJ18_hashCode 43 = .ok (.iconst 0, 1) := dk_3 (dk_at dksJ18_hashCode_2 15 rfl rfl)
theorem dJ18_hashCode_44 : decode cJ18_hashCode 44 = .ok (.aload_n 0, 1) := dk_42 (dk_at dksJ18_hashCode_2 16 rfl rfl)
theorem dJ18_hashCode_45 : decode cJ18_hashCode 45 = .ok (.arraylength, 1) := dk_190 (dk_at dksJ18_hashCode_2 17 rfl rfl)
theorem dJ18_hashCode_46 : decode cJ18_hashCode 46 = .ok (.iconst 0, 1) := dk_3 (dk_at dksJ18_hashCode_2 18 rfl rfl)
theorem dJ18_hashCode_47 : decode cJ18_hashCode 47 = .ok (.iconst 4, 1) := dk_7 (dk_at dksJ18_hashCode_2 19 rfl rfl)
theorem dJ18_hashCode_48 : decode cJ18_hashCode 48 = .ok (.invokestatic 84, 3) := dk_184 0 84 (dk_at dksJ18_hashCode_2 20 rfl rfl)
theorem dJ18_hashCode_51 : decode cJ18_hashCode 51 = .ok (.ireturn, 1) := dk_172 (dk_at dksJ18_hashCode_2 23 rfl rfl)
theorem q1268 : (Jvm.Cond.code ({ cls := "jdk/internal/util/ArraysSupport", name := "vectorizedHashCode", desc := "(Ljava/lang/Object;IIII)I" } : Jvm.MethodName) prog_78_method_4_code (5 : Nat) (Option.some Jvm.ClassFile.FieldType.int)) ∈ lw_all := lw_g (lw_at lw_m5 228 rfl) rfl
theorem zk_J15_vectorizedHashCode : zz_cd yJ15_vectorizedHashCode cJ15_vectorizedHashCode 5 (some .int) none ∈ lw_all := q1268
theorem zy_J15_vectorizedHashCode : zz_yok yJ15_vectorizedHashCode 5 = true := by decide +kernel
theorem q1266 : (Jvm.Cond.methodLink "java/lang/StringLatin1" (84 : Nat) ({ cls := "jdk/internal/util/ArraysSupport", name := "vectorizedHashCode", desc := "(Ljava/lang/Object;IIII)I" } : Jvm.MethodName)) ∈ lw_all := lw_g (lw_at lw_m5 226 rfl) rfl
theorem q1267 : (Jvm.Cond.static ({ cls := "jdk/internal/util/ArraysSupport", name := "vectorizedHashCode", desc := "(Ljava/lang/Object;IIII)I" } : Jvm.MethodName)) ∈ lw_all := lw_g (lw_at lw_m5 227 rfl) rfl
def wp_J18_hashCode_B51 (Z : zzG) (K : Option Value → zzM → Prop) (s0 : Int32) (M : zzM) : Prop := K (some (.int s0)) M
def wp_J18_hashCode (Z : zzG) (p0 : Option Nat) (M : zzM) (K : Option Value → zzM → Prop) : Prop := zlen Z M p0 fun x1 => if x1 = (0 : Int32) then (wp_J18_hashCode_B51 Z K (0 : Int32) M) else if x1 = (1 : Int32) then (zaI Z M p0 [101] (0 : Int32) fun x2 => wp_J18_hashCode_B51 Z K (x2 &&& (255 : Int32)) M) else (zlen Z M p0 fun x3 => wp_J15_vectorizedHashCode Z p0 (0 : Int32) x3 (0 : Int32) (4 : Int32) M (fun r4 M5 => zrI r4 fun x8 => wp_J18_hashCode_B51 Z K x8 M5))
theorem ok_J18_hashCode_B51 {G : zzX} (C : zz_C G cJ18_hashCode "java/lang/StringLatin1" 1) {K : Option Value → zzM → Prop} (E : zz_E G (some .int) K (fun _ _ _ => False)) (hH : zz_H G []) (hR : zz_Rm G 3) {s0 : Int32} {M : zzM} {bc bs : Nat} (hw : wp_J18_hashCode_B51 (zz_Zof G) K s0 M) : zz_T G 1 M bc bs 51 [] [.int s0] := by
  unfold wp_J18_hashCode_B51 at hw
  exact zz_iret C E dJ18_hashCode_51 hw
theorem ok_J18_hashCode {Z : zzG} {l : Launch} (hl : l.stackTraces = false) {p0 : Option Nat} {M : zzM} {mc ms : Nat} {K : Option Value → zzM → Prop} (hw : wp_J18_hashCode Z p0 M K) : zz_Met Z l yJ18_hashCode (zz_ws yJ18_hashCode cJ18_hashCode 1 (some .int) none) 3 [va_rf p0] M mc ms K (fun _ _ _ => False) := by
  refine zz_ofW hl (plainFor_of_name (by decide)) (by simp only [zz_sl0, zz_slI, zz_slJ, zz_slA] <;> decide) (fun G hZ hll C E hH hR hin => ?_)
  subst hZ
  subst hll
  rw [show lv_args 0 [va_rf p0] = [(0, va_rf p0)] by simp only [zz_la0, zz_laI, zz_laJ, zz_laA]]
  unfold wp_J18_hashCode at hw
  refine zz_aload_n C dJ18_hashCode_0 rfl 0 rfl ?_
  refine zz_alen C dJ18_hashCode_1 hw (fun x1 hw => ?_)
  by_cases e0 : x1 = (0 : Int32)
  · replace hw := zz_ifp e0 hw
    refine zz_lsw (tgt := 28) (off := 26) C dJ18_hashCode_2 rfl (by rw [e0]; decide) (by decide) ?_
    refine zz_iconst (v := (0 : Int32)) C dJ18_hashCode_28 (by decide) ?_
    refine zz_goto (tgt := 51) C dJ18_hashCode_29 (by decide) ?_
    refine zz_subP [] rfl ?_
    exact ok_J18_hashCode_B51 C E hH hR hw
  · replace hw := zz_ifn e0 hw
    by_cases e1 : x1 = (1 : Int32)
    · replace hw := zz_ifp e1 hw
      refine zz_lsw (tgt := 32) (off := 30) C dJ18_hashCode_2 rfl (by rw [e1]; decide) (by decide) ?_
      refine zz_aload_n C dJ18_hashCode_32 rfl 0 rfl ?_
      refine zz_iconst (v := (0 : Int32)) C dJ18_hashCode_33 (by decide) ?_
      refine zz_bald C dJ18_hashCode_34 hw (fun x2 hw => ?_)
      refine zz_sipush (v := (255 : Int32)) C dJ18_hashCode_35 (by decide) ?_
      refine zz_iand C dJ18_hashCode_38 ?_
      refine zz_goto (tgt := 51) C dJ18_hashCode_39 (by decide) ?_
      refine zz_subP [] rfl ?_
      exact ok_J18_hashCode_B51 C E hH hR hw
    · replace hw := zz_ifn e1 hw
      refine zz_lsw (tgt := 42) (off := 40) C dJ18_hashCode_2 rfl (zz_lswD2 (zz_ne e0 (by decide)) (zz_ne e1 (by decide))) (by decide) ?_
      refine zz_aload_n C dJ18_hashCode_42 rfl 0 rfl ?_
      refine zz_iconst (v := (0 : Int32)) C dJ18_hashCode_43 (by decide) ?_
      refine zz_aload_n C dJ18_hashCode_44 rfl 0 rfl ?_
      refine zz_alen C dJ18_hashCode_45 hw (fun x3 hw => ?_)
      refine zz_iconst (v := (0 : Int32)) C dJ18_hashCode_46 (by decide) ?_
      refine zz_iconst (v := (4 : Int32)) C dJ18_hashCode_47 (by decide) ?_
      refine zz_callS (As := [va_rf p0, .int (0 : Int32), .int x3, .int (0 : Int32), .int (4 : Int32)]) (rest := []) (mc := 0) (ms := 0) C hR dJ18_hashCode_48 (Or.inl q1266) q1267 zl_jdk_internal_util_ArraysSupport zk_J15_vectorizedHashCode (Or.inl rfl) zy_J15_vectorizedHashCode (by decide) (by decide) (ok_J15_vectorizedHashCode (zz_hl C) hw) (Nat.zero_le _) (Nat.zero_le _) (zz_cat10 _ (Nat.le_of_ble_eq_true rfl)) (fun r4 M5 hw => zz_kI hw (fun x8 hw => ?_)) (fun _ _ _ h9 => h9.elim) rfl
      refine zz_subP [] rfl ?_
      exact ok_J18_hashCode_B51 C E hH hR hw
abbrev cJ7_hashCode : ByteArray := prog_46_method_78_code
def yJ7_hashCode : MethodName := ⟨"java/lang/String", "hashCode", "()I"⟩
def dkwJ7_hashCode_2 : List UInt8 := [181, 0, 23, 167, 0, 8, 42, 27, 181, 0, 19, 27, 172]
abbrev dktJ7_hashCode_2 : List UInt8 := dkwJ7_hashCode_2 ++ []
def dkwJ7_hashCode_1 : List UInt8 := [180, 0, 9, 184, 2, 116, 167, 0, 10, 42, 180, 0, 9, 184, 2, 120, 60, 27, 154, 0, 11, 42, 4]
abbrev dktJ7_hashCode_1 : List UInt8 := dkwJ7_hashCode_1 ++ dktJ7_hashCode_2
def dkwJ7_hashCode_0 : List UInt8 := [42, 180, 0, 19, 60, 27, 154, 0, 52, 42, 180, 0, 23, 154, 0, 45, 42, 182, 1, 236, 153, 0, 13, 42]
abbrev dktJ7_hashCode_0 : List UInt8 := dkwJ7_hashCode_0 ++ dktJ7_hashCode_1
theorem dksJ7_hashCode_0 : cJ7_hashCode.data.toList.drop 0 = dktJ7_hashCode_0 := by decide +kernel
theorem dksJ7_hashCode_1 : cJ7_hashCode.data.toList.drop 24 = dktJ7_hashCode_1 := dk_seg dksJ7_hashCode_0 24 rfl rfl
theorem dksJ7_hashCode_2 : cJ7_hashCode.data.toList.drop 47 = dktJ7_hashCode_2 := dk_seg dksJ7_hashCode_1 23 rfl rfl
theorem dJ7_hashCode_0 : decode cJ7_hashCode 0 = .ok (.aload_n 0, 1) := dk_42 (dk_at dksJ7_hashCode_0 0 rfl rfl)
theorem dJ7_hashCode_1 : decode cJ7_hashCode 1 = .ok (.getfield 19, 3) := dk_180 0 19 (dk_at dksJ7_hashCode_0 1 rfl rfl)
theorem dJ7_hashCode_4 : decode cJ7_hashCode 4 = .ok (.istore_n 1, 1) := dk_60 (dk_at dksJ7_hashCode_0 4 rfl rfl)
theorem dJ7_hashCode_5 : decode cJ7_hashCode 5 = .ok (.iload_n 1, 1) := dk_27 (dk_at dksJ7_hashCode_0 5 rfl rfl)
theorem dJ7_hashCode_6 : decode cJ7_hashCode 6 = .ok (.ifCond .ne 52, 3) := dk_154 0 52 (dk_at dksJ7_hashCode_0 6 rfl rfl)
theorem dJ7_hashCode_9 : decode cJ7_hashCode 9 = .ok (.aload_n 0, 1) := dk_42 (dk_at dksJ7_hashCode_0 9 rfl rfl)
theorem dJ7_hashCode_10 : decode cJ7_hashCode 10 = .ok (.getfield 23, 3) := dk_180 0 23 (dk_at dksJ7_hashCode_0 10 rfl rfl)
theorem dJ7_hashCode_13 : decode cJ7_hashCode 13 = .ok (.ifCond .ne 45, 3) := dk_154 0 45 (dk_at dksJ7_hashCode_0 13 rfl rfl)
theorem dJ7_hashCode_16 : decode cJ7_hashCode 16 = .ok (.aload_n 0, 1) := dk_42 (dk_at dksJ7_hashCode_0 16 rfl rfl)
theorem dJ7_hashCode_17 : decode cJ7_hashCode 17 = .ok (.invokevirtual 492, 3) := dk_182 1 236 (dk_at dksJ7_hashCode_0 17 rfl rfl)
theorem dJ7_hashCode_20 : decode cJ7_hashCode 20 = .ok (.ifCond .eq 13, 3) := dk_153 0 13 (dk_at dksJ7_hashCode_0 20 rfl rfl)
theorem dJ7_hashCode_23 : decode cJ7_hashCode 23 = .ok (.aload_n 0, 1) := dk_42 (dk_at dksJ7_hashCode_0 23 rfl rfl)
theorem dJ7_hashCode_24 : decode cJ7_hashCode 24 = .ok (.getfield 9, 3) := dk_180 0 9 (dk_at dksJ7_hashCode_1 0 rfl rfl)
theorem dJ7_hashCode_27 : decode cJ7_hashCode 27 = .ok (.invokestatic 628, 3) := dk_184 2 116 (dk_at dksJ7_hashCode_1 3 rfl rfl)
theorem dJ7_hashCode_30 : decode cJ7_hashCode 30 = .ok (.goto 10, 3) := dk_167 0 10 (dk_at dksJ7_hashCode_1 6 rfl rfl)
theorem dJ7_hashCode_33 : decode cJ7_hashCode 33 = .ok (.aload_n 0, 1) := dk_42 (dk_at dksJ7_hashCode_1 9 rfl rfl)
theorem dJ7_hashCode_34 : decode cJ7_hashCode 34 = .ok (.getfield 9, 3) := dk_180 0 9 (dk_at dksJ7_hashCode_1 10 rfl rfl)
theorem dJ7_hashCode_37 : decode cJ7_hashCode 37 = .ok (.invokestatic 632, 3) := dk_184 2 120 (dk_at dksJ7_hashCode_1 13 rfl rfl)
theorem dJ7_hashCode_40 : decode cJ7_hashCode 40 = .ok (.istore_n 1, 1) := dk_60 (dk_at dksJ7_hashCode_1 16 rfl rfl)
theorem dJ7_hashCode_41 : decode cJ7_hashCode 41 = .ok (.iload_n 1, 1) := dk_27 (dk_at dksJ7_hashCode_1 17 rfl rfl)
theorem dJ7_hashCode_42 : decode cJ7_hashCode 42 = .ok (.ifCond .ne 11, 3) := dk_154 0 11 (dk_at dksJ7_hashCode_1 18 rfl rfl)
theorem dJ7_hashCode_45 : decode cJ7_hashCode 45 = .ok (.aload_n 0, 1) := dk_42 (dk_at dksJ7_hashCode_1 21 rfl rfl)
theorem dJ7_hashCode_46 : decode cJ7_hashCode 46 = .ok (.iconst 1, 1) := dk_4 (dk_at dksJ7_hashCode_1 22 rfl rfl)
theorem dJ7_hashCode_47 : decode cJ7_hashCode 47 = .ok (.putfield 23, 3) := dk_181 0 23 (dk_at dksJ7_hashCode_2 0 rfl rfl)
theorem dJ7_hashCode_50 : decode cJ7_hashCode 50 = .ok (.goto 8, 3) := dk_167 0 8 (dk_at dksJ7_hashCode_2 3 rfl rfl)
theorem dJ7_hashCode_53 : decode cJ7_hashCode 53 = .ok (.aload_n 0, 1) := dk_42 (dk_at dksJ7_hashCode_2 6 rfl rfl)
theorem dJ7_hashCode_54 : decode cJ7_hashCode 54 = .ok (.iload_n 1, 1) := dk_27 (dk_at dksJ7_hashCode_2 7 rfl rfl)
theorem dJ7_hashCode_55 : decode cJ7_hashCode 55 = .ok (.putfield 19, 3) := dk_181 0 19 (dk_at dksJ7_hashCode_2 8 rfl rfl)
theorem dJ7_hashCode_58 : decode cJ7_hashCode 58 = .ok (.iload_n 1, 1) := dk_27 (dk_at dksJ7_hashCode_2 11 rfl rfl)
theorem dJ7_hashCode_59 : decode cJ7_hashCode 59 = .ok (.ireturn, 1) := dk_172 (dk_at dksJ7_hashCode_2 12 rfl rfl)
theorem zf_21_2_va_lang_String : zz_fok [21] 2 "java/lang/String" "hash" "I" := zz_fok1 (zR_21, zT_21, 4) rfl (by decide) rfl rfl (Or.inl rfl)
theorem q691 : (Jvm.Cond.fieldLink "java/lang/String" (19 : Nat) "java/lang/String" "hash" "I") ∈ lw_all := lw_g (lw_at lw_m3 131 rfl) rfl
theorem zf_21_3_va_lang_String : zz_fok [21] 3 "java/lang/String" "hashIsZero" "Z" := zz_fok1 (zR_21, zT_21, 4) rfl (by decide) rfl rfl (Or.inl rfl)
theorem q692 : (Jvm.Cond.fieldLink "java/lang/String" (23 : Nat) "java/lang/String" "hashIsZero" "Z") ∈ lw_all := lw_g (lw_at lw_m3 132 rfl) rfl
theorem q1265 : (Jvm.Cond.code ({ cls := "java/lang/StringLatin1", name := "hashCode", desc := "([B)I" } : Jvm.MethodName) prog_49_method_21_code (1 : Nat) (Option.some Jvm.ClassFile.FieldType.int)) ∈ lw_all := lw_g (lw_at lw_m5 225 rfl) rfl
theorem zk_J18_hashCode : zz_cd yJ18_hashCode cJ18_hashCode 1 (some .int) none ∈ lw_all := q1265
theorem zy_J18_hashCode : zz_yok yJ18_hashCode 1 = true := by decide +kernel
theorem zp_21_2 : zz_pok [21] 2 := zz_pok1 (zR_21, zT_21, 4) (by decide) rfl rfl
theorem zp_21_3 : zz_pok [21] 3 := zz_pok1 (zR_21, zT_21, 4) (by decide) rfl rfl
theorem q1263 : (Jvm.Cond.methodLink "java/lang/String" (628 : Nat) ({ cls := "java/lang/StringLatin1", name := "hashCode", desc := "([B)I" } : Jvm.MethodName)) ∈ lw_all := lw_g (lw_at lw_m5 223 rfl) rfl
theorem q1264 : (Jvm.Cond.static ({ cls := "java/lang/StringLatin1", name := "hashCode", desc := "([B)I" } : Jvm.MethodName)) ∈ lw_all := lw_g (lw_at lw_m5 224 rfl) rfl
def wp_J7_hashCode_B58 (Z : zzG) (K : Option Value → zzM → Prop) (v1 : Int32) (M : zzM) : Prop := K (some (.int v1)) M
def wp_J7_hashCode (Z : zzG) (this : Option Nat) (M : zzM) (K : Option Value → zzM → Prop) : Prop := zgI Z M this [21] 2 fun x1 => if x1 = 0 then (zgI Z M this [21] 3 fun x2 => if x2 = 0 then (zty Z M this fun t => t = 21 ∧ wp_J7_isLatin1 Z this M (fun r3 M4 => zrI r3 fun x7 => if x7 = 0 then (zgA Z M4 this [21] 0 fun x8 => False) else (zgA Z M4 this [21] 0 fun x9 => wp_J18_hashCode Z x9 M4 (fun r10 M11 => zrI r10 fun x14 => if x14 = 0 then (zfit .boolean (1 : Int32) ∧ zput Z M11 this [21] 3 (.int (1 : Int32)) fun M16 => wp_J7_hashCode_B58 Z K x14 M16) else (zput Z M11 this [21] 2 (.int x14) fun M15 => wp_J7_hashCode_B58 Z K x14 M15))))) else (wp_J7_hashCode_B58 Z K x1 M)) else (wp_J7_hashCode_B58 Z K x1 M)
theorem ok_J7_hashCode_B58 {G : zzX} (C : zz_C G cJ7_hashCode "java/lang/String" 2) {K : Option Value → zzM → Prop} (E : zz_E G (some .int) K (fun _ _ _ => False)) (hH : zz_H G []) (hR : zz_Rm G 4) {v1 : Int32} {M : zzM} {bc bs : Nat} (hw : wp_J7_hashCode_B58 (zz_Zof G) K v1 M) : zz_T G 2 M bc bs 58 [(1, .int v1)] [] := by
  unfold wp_J7_hashCode_B58 at hw
  refine zz_iload_n C dJ7_hashCode_58 rfl 0 rfl ?_
  exact zz_iret C E dJ7_hashCode_59 hw
theorem ok_J7_hashCode {Z : zzG} {l : Launch} (hl : l.stackTraces = false) {this : Option Nat} {M : zzM} {mc ms : Nat} {K : Option Value → zzM → Prop} (hw : wp_J7_hashCode Z this M K) : zz_Met Z l yJ7_hashCode (zz_ws yJ7_hashCode cJ7_hashCode 2 (some .int) none) 4 [va_rf this] M mc ms K (fun _ _ _ => False) := by
  refine zz_ofW hl (plainFor_of_name (by decide)) (by simp only [zz_sl0, zz_slI, zz_slJ, zz_slA] <;> decide) (fun G hZ hll C E hH hR hin => ?_)
  subst hZ
  subst hll
  rw [show lv_args 0 [va_rf this] = [(0, va_rf this)] by simp only [zz_la0, zz_laI, zz_laJ, zz_laA]]
  unfold wp_J7_hashCode at hw
  refine zz_aload_n C dJ7_hashCode_0 rfl 0 rfl ?_
  refine zz_getI C dJ7_hashCode_1 (Or.inl q691) zf_21_2_va_lang_String hw (fun x1 hw => ?_)
  refine zz_istore_n (i := 1) (lv' := [(1, .int x1), (0, va_rf this)]) C dJ7_hashCode_4 rfl (by decide) (by simp [zz_cat, zz_catI, zz_catJ, zz_catD]) ?_
  refine zz_iload_n C dJ7_hashCode_5 rfl 0 rfl ?_
  refine zz_if_ne (tgt := 58) C dJ7_hashCode_6 (by decide) hw (fun hw => ?_) (fun hw => ?_)
  · refine zz_subP [0] rfl ?_
    exact ok_J7_hashCode_B58 C E hH hR hw
  · refine zz_aload_n C dJ7_hashCode_9 rfl 1 rfl ?_
    refine zz_getI C dJ7_hashCode_10 (Or.inl q692) zf_21_3_va_lang_String hw (fun x2 hw => ?_)
    refine zz_if_ne (tgt := 58) C dJ7_hashCode_13 (by decide) hw (fun hw => ?_) (fun hw => ?_)
    · refine zz_subP [0] rfl ?_
      exact ok_J7_hashCode_B58 C E hH hR hw
    · refine zz_aload_n C dJ7_hashCode_16 rfl 1 rfl ?_
      obtain ⟨a9, t9, b9, fs9, hro, hL, rfl, hw⟩ := ztyS hw
      refine zz_callV (r := (zR_21, zT_21, 4)) (As := []) (rest := []) (mc := 0) (ms := 0) C hR hro dJ7_hashCode_17 (Or.inl q731) q732 (Or.inl q733) zl_java_lang_String zk_J7_isLatin1 (Or.inl rfl) zy_J7_isLatin1 rfl (by decide) (by decide) hL (ok_J7_isLatin1 (zz_hl C) hw) (Nat.zero_le _) (Nat.zero_le _) (zz_cat10 _ (Nat.le_of_ble_eq_true rfl)) (fun r3 M4 hw => zz_kI hw (fun x7 hw => ?_)) (fun _ _ _ h9 => h9.elim) rfl
      refine zz_if_eq (tgt := 33) C dJ7_hashCode_20 (by decide) hw (fun hw => ?_) (fun hw => ?_)
      · refine zz_aload_n C dJ7_hashCode_33 rfl 1 rfl ?_
        refine zz_getA C dJ7_hashCode_34 (Or.inl q689) zf_21_0_va_lang_String hw (fun x8 hw => ?_)
        exact hw.elim
      · refine zz_aload_n C dJ7_hashCode_23 rfl 1 rfl ?_
        refine zz_getA C dJ7_hashCode_24 (Or.inl q689) zf_21_0_va_lang_String hw (fun x9 hw => ?_)
        refine zz_callS (As := [va_rf x9]) (rest := []) (mc := 0) (ms := 0) C hR dJ7_hashCode_27 (Or.inl q1263) q1264 zl_java_lang_StringLatin1 zk_J18_hashCode (Or.inl rfl) zy_J18_hashCode (by decide) (by decide) (ok_J18_hashCode (zz_hl C) hw) (Nat.zero_le _) (Nat.zero_le _) (zz_cat10 _ (Nat.le_of_ble_eq_true rfl)) (fun r10 M11 hw => zz_kI hw (fun x14 hw => ?_)) (fun _ _ _ h9 => h9.elim) rfl
        refine zz_goto (tgt := 40) C dJ7_hashCode_30 (by decide) ?_
        refine zz_istore_n (i := 1) (lv' := [(1, .int x14), (0, va_rf this)]) C dJ7_hashCode_40 rfl (by decide) (by simp [zz_cat, zz_catI, zz_catJ, zz_catD]) ?_
        refine zz_iload_n C dJ7_hashCode_41 rfl 0 rfl ?_
        refine zz_if_ne (tgt := 53) C dJ7_hashCode_42 (by decide) hw (fun hw => ?_) (fun hw => ?_)
        · refine zz_aload_n C dJ7_hashCode_53 rfl 1 rfl ?_
          refine zz_iload_n C dJ7_hashCode_54 rfl 0 rfl ?_
          refine zz_put C dJ7_hashCode_55 (Or.inl q691) zf_21_2_va_lang_String zp_21_2 (zz_hn1 ⟨rfl, rfl⟩) hw (fun M15 hw => ?_)
          refine zz_subP [0] rfl ?_
          exact ok_J7_hashCode_B58 C E hH hR hw
        · refine zz_aload_n C dJ7_hashCode_45 rfl 1 rfl ?_
          refine zz_iconst (v := (1 : Int32)) C dJ7_hashCode_46 (by decide) ?_
          obtain ⟨hfit, hw⟩ := hw
          refine zz_put C dJ7_hashCode_47 (Or.inl q692) zf_21_3_va_lang_String zp_21_3 (zz_hn1 hfit) hw (fun M16 hw => ?_)
          refine zz_goto (tgt := 58) C dJ7_hashCode_50 (by decide) ?_
          refine zz_subP [0] rfl ?_
          exact ok_J7_hashCode_B58 C E hH hR hw
abbrev cJ4_hash : ByteArray := prog_63_method_1_code
def yJ4_hash : MethodName := ⟨"java/util/HashMap", "hash", "(Ljava/lang/Object;)I"⟩
def dkwJ4_hash_0 : List UInt8 := [42, 199, 0, 7, 3, 167, 0, 14, 42, 182, 0, 1, 89, 60, 27, 16, 16, 124, 130, 172]
abbrev dktJ4_hash_0 : List UInt8 := dkwJ4_hash_0 ++ []
theorem dksJ4_hash_0 : cJ4_hash.data.toList.drop 0 = dktJ4_hash_0 := by decide +kernel
theorem dJ4_hash_0 : decode cJ4_hash 0 = .ok (.aload_n 0, 1) := dk_42 (dk_at dksJ4_hash_0 0 rfl rfl)
theorem dJ4_hash_1 : decode cJ4_hash 1 = .ok (.ifnonnull 7, 3) := dk_199 0 7 (dk_at dksJ4_hash_0 1 rfl rfl)
theorem dJ4_hash_4 : decode cJ4_hash 4 = .ok (.iconst 0, 1) := dk_3 (dk_at dksJ4_hash_0 4 rfl rfl)
theorem dJ4_hash_5 : decode cJ4_hash 5 = .ok (.goto 14, 3) := dk_167 0 14 (dk_at dksJ4_hash_0 5 rfl rfl)
theorem dJ4_hash_8 : decode cJ4_hash 8 = .ok (.aload_n 0, 1) := dk_42 (dk_at dksJ4_hash_0 8 rfl rfl)
theorem dJ4_hash_9 : decode cJ4_hash 9 = .ok (.invokevirtual 1, 3) := dk_182 0 1 (dk_at dksJ4_hash_0 9 rfl rfl)
theorem dJ4_hash_12 : decode cJ4_hash 12 = .ok (.dup, 1) := dk_89 (dk_at dksJ4_hash_0 12 rfl rfl)
theorem dJ4_hash_13 : decode cJ4_hash 13 = .ok (.istore_n 1, 1) := dk_60 (dk_at dksJ4_hash_0 13 rfl rfl)
theorem dJ4_hash_14 : decode cJ4_hash 14 = .ok (.iload_n 1, 1) := dk_27 (dk_at dksJ4_hash_0 14 rfl rfl)
theorem dJ4_hash_15 : decode cJ4_hash 15 = .ok (.bipush 16, 2) := dk_16 16 (dk_at dksJ4_hash_0 15 rfl rfl)
theorem dJ4_hash_17 : decode cJ4_hash 17 = .ok (.iushr, 1) := dk_124 (dk_at dksJ4_hash_0 17 rfl rfl)
theorem dJ4_hash_18 : decode cJ4_hash 18 = .ok (.ixor, 1) := dk_130 (dk_at dksJ4_hash_0 18 rfl rfl)
theorem dJ4_hash_19 : decode cJ4_hash 19 = .ok (.ireturn, 1) := dk_172 (dk_at dksJ4_hash_0 19 rfl rfl)
theorem q1262 : (Jvm.Cond.code ({ cls := "java/lang/String", name := "hashCode", desc := "()I" } : Jvm.MethodName) prog_46_method_78_code (2 : Nat) (Option.some Jvm.ClassFile.FieldType.int)) ∈ lw_all := lw_g (lw_at lw_m5 222 rfl) rfl
theorem zk_J7_hashCode : zz_cd yJ7_hashCode cJ7_hashCode 2 (some .int) none ∈ lw_all := q1262
theorem zy_J7_hashCode : zz_yok yJ7_hashCode 0 = true := by decide +kernel
theorem q1226 : (Jvm.Cond.methodLink "java/util/HashMap" (1 : Nat) ({ cls := "java/lang/Object", name := "hashCode", desc := "()I" } : Jvm.MethodName)) ∈ lw_all := lw_g (lw_at lw_m5 186 rfl) rfl
theorem q1225 : (Jvm.Cond.declares ({ cls := "java/lang/Object", name := "hashCode", desc := "()I" } : Jvm.MethodName)) ∈ lw_tbl := lw_at lw_m5 185 rfl
theorem q1228 : (Jvm.Cond.sameMethod "java/lang/Object" "java/lang/Object" "hashCode" "()I") ∈ lw_all := lw_g (lw_at lw_m5 188 rfl) rfl
theorem q1261 : (Jvm.Cond.instanceMethod ({ cls := "java/lang/String", name := "hashCode", desc := "()I" } : Jvm.MethodName)) ∈ lw_all := lw_g (lw_at lw_m5 221 rfl) rfl
theorem q1260 : (Jvm.Cond.selects "java/lang/String" ({ cls := "java/lang/Object", name := "hashCode", desc := "()I" } : Jvm.MethodName) ({ cls := "java/lang/String", name := "hashCode", desc := "()I" } : Jvm.MethodName)) ∈ lw_all := lw_g (lw_at lw_m5 220 rfl) rfl
theorem zyo_java_lang_Object_hashCode___I : zz_yok ⟨"java/lang/Object", "hashCode", "()I"⟩ 0 = true := by decide +kernel
def wp_J4_hash_B19 (Z : zzG) (K : Option Value → zzM → Prop) (s0 : Int32) (M : zzM) : Prop := K (some (.int s0)) M
def wp_J4_hash (Z : zzG) (p0 : Option Nat) (M : zzM) (K : Option Value → zzM → Prop) : Prop := if p0 = none then (wp_J4_hash_B19 Z K (0 : Int32) M) else (zty Z M p0 fun t => t = 21 ∧ wp_J7_hashCode Z p0 M (fun r1 M2 => zrI r1 fun x5 => wp_J4_hash_B19 Z K (x5 ^^^ ((x5.toUInt32 >>> ((16 : Int32).toUInt32 &&& Int32.toUInt32 31)).toInt32)) M2))
theorem ok_J4_hash_B19 {G : zzX} (C : zz_C G cJ4_hash "java/util/HashMap" 2) {K : Option Value → zzM → Prop} (E : zz_E G (some .int) K (fun _ _ _ => False)) (hH : zz_H G []) (hR : zz_Rm G 5) {s0 : Int32} {M : zzM} {bc bs : Nat} (hw : wp_J4_hash_B19 (zz_Zof G) K s0 M) : zz_T G 2 M bc bs 19 [] [.int s0] := by
  unfold wp_J4_hash_B19 at hw
  exact zz_iret C E dJ4_hash_19 hw
theorem ok_J4_hash {Z : zzG} {l : Launch} (hl : l.stackTraces = false) {p0 : Option Nat} {M : zzM} {mc ms : Nat} {K : Option Value → zzM → Prop} (hw : wp_J4_hash Z p0 M K) : zz_Met Z l yJ4_hash (zz_ws yJ4_hash cJ4_hash 2 (some .int) none) 5 [va_rf p0] M mc ms K (fun _ _ _ => False) := by
  refine zz_ofW hl (plainFor_of_name (by decide)) (by simp only [zz_sl0, zz_slI, zz_slJ, zz_slA] <;> decide) (fun G hZ hll C E hH hR hin => ?_)
  subst hZ
  subst hll
  rw [show lv_args 0 [va_rf p0] = [(0, va_rf p0)] by simp only [zz_la0, zz_laI, zz_laJ, zz_laA]]
  unfold wp_J4_hash at hw
  refine zz_aload_n C dJ4_hash_0 rfl 0 rfl ?_
  refine zz_ifnonnull (tgt := 8) C dJ4_hash_1 (by decide) hw (fun hw => ?_) (fun hw => ?_)
  · refine zz_aload_n C dJ4_hash_8 rfl 0 rfl ?_
    obtain ⟨a9, t9, b9, fs9, hro, hL, rfl, hw⟩ := ztyS hw
    refine zz_callU (r := (zR_21, zT_21, 4)) (x := ⟨"java/lang/Object", "hashCode", "()I"⟩) (owner := "java/lang/Object") (As := []) (rest := []) (mc := 0) (ms := 0) C hR hro dJ4_hash_9 q1226 q1228 (Or.inl q1225) q1261 q1260 zl_java_lang_String zk_J7_hashCode zyo_java_lang_Object_hashCode___I rfl (by decide) (by decide) hL (ok_J7_hashCode (zz_hl C) hw) (Nat.zero_le _) (Nat.zero_le _) (zz_cat10 _ (Nat.le_of_ble_eq_true rfl)) (fun r1 M2 hw => zz_kI hw (fun x5 hw => ?_)) (fun _ _ _ h9 => h9.elim) rfl
    refine zz_dup C dJ4_hash_12 rfl ?_
    refine zz_istore_n (i := 1) (lv' := [(1, .int x5), (0, va_rf p0)]) C dJ4_hash_13 rfl (by decide) (by simp [zz_cat, zz_catI, zz_catJ, zz_catD]) ?_
    refine zz_iload_n C dJ4_hash_14 rfl 0 rfl ?_
    refine zz_bipush (v := (16 : Int32)) C dJ4_hash_15 (by decide) ?_
    refine zz_iushr C dJ4_hash_17 rfl ?_
    refine zz_ixor C dJ4_hash_18 ?_
    refine zz_subP [] rfl ?_
    exact ok_J4_hash_B19 C E hH hR hw
  · refine zz_iconst (v := (0 : Int32)) C dJ4_hash_4 (by decide) ?_
    refine zz_goto (tgt := 19) C dJ4_hash_5 (by decide) ?_
    refine zz_subP [] rfl ?_
    exact ok_J4_hash_B19 C E hH hR hw
abbrev cJ4_resize : ByteArray := prog_63_method_17_code
def yJ4_resize : MethodName := ⟨"java/util/HashMap", "resize", "()[Ljava/util/HashMap$Node;"⟩
def dkwJ4_resize_15 : List UInt8 := [25, 6, 176]
abbrev dktJ4_resize_15 : List UInt8 := dkwJ4_resize_15 ++ []
def dkwJ4_resize_14 : List UInt8 := [198, 0, 18, 25, 12, 1, 181, 0, 177, 25, 6, 21, 7, 28, 96, 25, 11, 83, 132, 7, 1, 167, 255, 57]
abbrev dktJ4_resize_14 : List UInt8 := dkwJ4_resize_14 ++ dktJ4_resize_15
def dkwJ4_resize_13 : List UInt8 := [199, 255, 185, 25, 10, 198, 0, 16, 25, 10, 1, 181, 0, 177, 25, 6, 21, 7, 25, 9, 83, 25, 12]
abbrev dktJ4_resize_13 : List UInt8 := dkwJ4_resize_13 ++ dktJ4_resize_14
def dkwJ4_resize_12 : List UInt8 := [25, 8, 58, 11, 167, 0, 10, 25, 12, 25, 8, 181, 0, 177, 25, 8, 58, 12, 25, 13, 89, 58, 8]
abbrev dktJ4_resize_12 : List UInt8 := dkwJ4_resize_12 ++ dktJ4_resize_13
def dkwJ4_resize_11 : List UInt8 := [58, 9, 167, 0, 10, 25, 10, 25, 8, 181, 0, 177, 25, 8, 58, 10, 167, 0, 26, 25, 12, 199, 0, 10]
abbrev dktJ4_resize_11 : List UInt8 := dkwJ4_resize_11 ++ dktJ4_resize_12
def dkwJ4_resize_10 : List UInt8 := [25, 8, 180, 0, 177, 58, 13, 25, 8, 180, 0, 168, 28, 126, 154, 0, 29, 25, 10, 199, 0, 10, 25, 8]
abbrev dktJ4_resize_10 : List UInt8 := dkwJ4_resize_10 ++ dktJ4_resize_11
def dkwJ4_resize_9 : List UInt8 := [42, 25, 6, 21, 7, 28, 182, 0, 211, 167, 0, 127, 1, 58, 9, 1, 58, 10, 1, 58, 11, 1, 58, 12]
abbrev dktJ4_resize_9 : List UInt8 := dkwJ4_resize_9 ++ dktJ4_resize_10
def dkwJ4_resize_8 : List UInt8 := [21, 4, 4, 100, 126, 25, 8, 83, 167, 0, 152, 25, 8, 193, 0, 180, 153, 0, 20, 25, 8, 192, 0, 180]
abbrev dktJ4_resize_8 : List UInt8 := dkwJ4_resize_8 ++ dktJ4_resize_9
def dkwJ4_resize_7 : List UInt8 := [198, 0, 183, 43, 21, 7, 1, 83, 25, 8, 180, 0, 177, 199, 0, 21, 25, 6, 25, 8, 180, 0, 168]
abbrev dktJ4_resize_7 : List UInt8 := dkwJ4_resize_7 ++ dktJ4_resize_8
def dkwJ4_resize_6 : List UInt8 := [181, 0, 105, 43, 198, 0, 208, 3, 54, 7, 21, 7, 28, 162, 0, 199, 43, 21, 7, 50, 89, 58, 8]
abbrev dktJ4_resize_6 : List UInt8 := dkwJ4_resize_6 ++ dktJ4_resize_7
def dkwJ4_resize_5 : List UInt8 := [167, 0, 5, 18, 209, 54, 5, 42, 21, 5, 181, 0, 88, 21, 4, 189, 0, 163, 58, 6, 42, 25, 6]
abbrev dktJ4_resize_5 : List UInt8 := dkwJ4_resize_5 ++ dktJ4_resize_6
def dkwJ4_resize_4 : List UInt8 := [180, 0, 81, 106, 56, 6, 21, 4, 18, 42, 162, 0, 17, 23, 6, 18, 210, 150, 156, 0, 9, 23, 6, 139]
abbrev dktJ4_resize_4 : List UInt8 := dkwJ4_resize_4 ++ dktJ4_resize_5
def dkwJ4_resize_3 : List UInt8 := [54, 4, 167, 0, 11, 16, 16, 54, 4, 16, 12, 54, 5, 21, 5, 154, 0, 38, 21, 4, 134, 42]
abbrev dktJ4_resize_3 : List UInt8 := dkwJ4_resize_3 ++ dktJ4_resize_4
def dkwJ4_resize_2 : List UInt8 := [18, 42, 162, 0, 35, 28, 16, 16, 161, 0, 29, 29, 4, 120, 54, 5, 167, 0, 21, 29, 158, 0, 9, 29]
abbrev dktJ4_resize_2 : List UInt8 := dkwJ4_resize_2 ++ dktJ4_resize_3
def dkwJ4_resize_1 : List UInt8 := [28, 158, 0, 42, 28, 18, 42, 161, 0, 11, 42, 18, 209, 181, 0, 88, 43, 176, 28, 4, 120, 89, 54, 4]
abbrev dktJ4_resize_1 : List UInt8 := dkwJ4_resize_1 ++ dktJ4_resize_2
def dkwJ4_resize_0 : List UInt8 := [42, 180, 0, 105, 76, 43, 199, 0, 7, 3, 167, 0, 5, 43, 190, 61, 42, 180, 0, 88, 62, 3, 54, 5]
abbrev dktJ4_resize_0 : List UInt8 := dkwJ4_resize_0 ++ dktJ4_resize_1
theorem dksJ4_resize_0 : cJ4_resize.data.toList.drop 0 = dktJ4_resize_0 := by decide +kernel
theorem dksJ4_resize_1 : cJ4_resize.data.toList.drop 24 = dktJ4_resize_1 := dk_seg dksJ4_resize_0 24 rfl rfl
theorem dksJ4_resize_2 : cJ4_resize.data.toList.drop 48 = dktJ4_resize_2 := dk_seg dksJ4_resize_1 24 rfl rfl
theorem dksJ4_resize_3 : cJ4_resize.data.toList.drop 72 = dktJ4_resize_3 := dk_seg dksJ4_resize_2 24 rfl rfl
theorem dksJ4_resize_4 : cJ4_resize.data.toList.drop 94 = dktJ4_resize_4 := dk_seg dksJ4_resize_3 22 rfl rfl
theorem dksJ4_resize_5 : cJ4_resize.data.toList.drop 118 = dktJ4_resize_5 := dk_seg dksJ4_resize_4 24 rfl rfl
theorem dksJ4_resize_6 : cJ4_resize.data.toList.drop 141 = dktJ4_resize_6 := dk_seg dksJ4_resize_5 23 rfl rfl
theorem dksJ4_resize_7 : cJ4_resize.data.toList.drop 164 = dktJ4_resize_7 := dk_seg dksJ4_resize_6 23 rfl rfl
theorem dksJ4_resize_8 : cJ4_resize.data.toList.drop 187 = dktJ4_resize_8 := dk_seg dksJ4_resize_7 23 rfl rfl
theorem dksJ4_resize_9 : cJ4_resize.data.toList.drop 211 = dktJ4_resize_9 := dk_seg dksJ4_resize_8 24 rfl rfl
theorem dksJ4_resize_10 : cJ4_resize.data.toList.drop 235 = dktJ4_resize_10 := dk_seg dksJ4_resize_9 24 rfl rfl
theorem dksJ4_resize_11 : cJ4_resize.data.toList.drop 259 = dktJ4_resize_11 := dk_seg dksJ4_resize_10 24 rfl rfl
theorem dksJ4_resize_12 : cJ4_resize.data.toList.drop 283 = dktJ4_resize_12 := dk_seg dksJ4_resize_11 24 rfl rfl
theorem dksJ4_resize_13 : cJ4_resize.data.toList.drop 306 = dktJ4_resize_13 := dk_seg dksJ4_resize_12 23 rfl rfl
theorem dksJ4_resize_14 : cJ4_resize.data.toList.drop 329 = dktJ4_resize_14 := dk_seg dksJ4_resize_13 23 rfl rfl
theorem dksJ4_resize_15 : cJ4_resize.data.toList.drop 353 = dktJ4_resize_15 := dk_seg dksJ4_resize_14 24 rfl rfl
theorem dJ4_resize_0 : decode cJ4_resize 0 = .ok (.aload_n 0, 1) := dk_42 (dk_at dksJ4_resize_0 0 rfl rfl)
theorem dJ4_resize_1 : decode cJ4_resize 1 = .ok (.getfield 105, 3) := dk_180 0 105 (dk_at dksJ4_resize_0 1 rfl rfl)
theorem dJ4_resize_4 : decode cJ4_resize 4 = .ok (.astore_n 1, 1) := dk_76 (dk_at dksJ4_resize_0 4 rfl rfl)
theorem dJ4_resize_5 : decode cJ4_resize 5 = .ok (.aload_n 1, 1) := dk_43 (dk_at dksJ4_resize_0 5 rfl rfl)
theorem dJ4_resize_6 : decode cJ4_resize 6 = .ok (.ifnonnull 7, 3) := dk_199 0 7 (dk_at dksJ4_resize_0 6 rfl rfl)
theorem dJ4_resize_9 : decode cJ4_resize 9 = .ok (.iconst 0, 1) := dk_3 (dk_at dksJ4_resize_0 9 rfl rfl)
theorem dJ4_resize_10 : decode cJ4_resize 10 = .ok (.goto 5, 3) := dk_167 0 5 (dk_at dksJ4_resize_0 10 rfl rfl)
theorem dJ4_resize_13 : decode cJ4_resize 13 = .ok (.aload_n 1, 1) := dk_43 (dk_at dksJ4_resize_0 13 rfl rfl)
theorem dJ4_resize_14 : decode cJ4_resize 14 = .ok (.arraylength, 1) := dk_190 (dk_at dksJ4_resize_0 14 rfl rfl)
theorem dJ4_resize_15 : decode cJ4_resize 15 = .ok (.istore_n 2, 1) := dk_61 (dk_at dksJ4_resize_0 15 rfl rfl)
theorem dJ4_resize_16 : decode cJ4_resize 16 = .ok (.aload_n 0, 1) := dk_42 (dk_at dksJ4_resize_0 16 rfl rfl)
theorem dJ4_resize_17 : decode cJ4_resize 17 = .ok (.getfield 88, 3) := dk_180 0 88 (dk_at dksJ4_resize_0 17 rfl rfl)
theorem dJ4_resize_20 : decode cJ4_resize 20 = .ok (.istore_n 3, 1) := dk_62 (dk_at dksJ4_resize_0 20 rfl rfl)
theorem dJ4_resize_21 : decode cJ4_resize 21 = .ok (.iconst 0, 1) := dk_3 (dk_at dksJ4_resize_0 21 rfl rfl)
theorem dJ4_resize_22 : decode cJ4_resize 22 = .ok (.istore 5, 2) := dk_54 5 (dk_at dksJ4_resize_0 22 rfl rfl)
theorem dJ4_resize_24 : decode cJ4_resize 24 = .ok (.iload_n 2, 1) := dk_28 (dk_at dksJ4_resize_1 0 rfl rfl)
theorem dJ4_resize_25 : decode cJ4_resize 25 = .ok (.ifCond .le 42, 3) := dk_158 0 42 (dk_at dksJ4_resize_1 1 rfl rfl)
theorem dJ4_resize_28 : decode cJ4_resize 28 = .ok (.iload_n 2, 1) := dk_28 (dk_at dksJ4_resize_1 4 rfl rfl)
theorem dJ4_resize_29 : decode cJ4_resize 29 = .ok (.ldc 42, 2) := dk_18 42 (dk_at dksJ4_resize_1 5 rfl rfl)
theorem dJ4_resize_31 : decode cJ4_resize 31 = .ok (.if_icmp .lt 11, 3) := dk_161 0 11 (dk_at dksJ4_resize_1 7 rfl rfl)
theorem dJ4_resize_34 : decode cJ4_resize 34 = .ok (.aload_n 0, 1) := dk_42 (dk_at dksJ4_resize_1 10 rfl rfl)
theorem dJ4_resize_35 : decode cJ4_resize 35 = .ok (.ldc 209, 2) := dk_18 209 (dk_at dksJ4_resize_1 11 rfl rfl)
theorem dJ4_resize_37 : decode cJ4_resize 37 = .ok (.putfield 88, 3) := dk_181 0 88 (dk_at dksJ4_resize_1 13 rfl rfl)
theorem dJ4_resize_40 : decode cJ4_resize 40 = .ok (.aload_n 1, 1) := dk_43 (dk_at dksJ4_resize_1 16 rfl rfl)
theorem dJ4_resize_41 : decode cJ4_resize 41 = .ok (.areturn, 1) := dk_176 (dk_at dksJ4_resize_1 17 rfl rfl)
theorem dJ4_resize_42 : decode cJ4_resize 42 = .ok (.iload_n 2, 1) := dk_28 (dk_at dksJ4_resize_1 18 rfl rfl)
theorem dJ4_resize_43 : decode cJ4_resize 43 = .ok (.iconst 1, 1) := dk_4 (dk_at dksJ4_resize_1 19 rfl rfl)
theorem dJ4_resize_44 : decode cJ4_resize 44 = .ok (.ishl, 1) := dk_120 (dk_at dksJ4_resize_1 20 rfl rfl)
theorem dJ4_resize_45 : decode cJ4_resize 45 = .ok (.dup, 1) := dk_89 (dk_at dksJ4_resize_1 21 rfl rfl)
theorem dJ4_resize_46 : decode cJ4_resize 46 = .ok (.istore 4, 2) := dk_54 4 (dk_at dksJ4_resize_1 22 rfl rfl)
theorem dJ4_resize_48 : decode cJ4_resize 48 = .ok (.ldc 42, 2) := dk_18 42 (dk_at dksJ4_resize_2 0 rfl rfl)
theorem dJ4_resize_50 : decode cJ4_resize 50 = .ok (.if_icmp .ge 35, 3) := dk_162 0 35 (dk_at dksJ4_resize_2 2 rfl rfl)
theorem dJ4_resize_53 : decode cJ4_resize 53 = .ok (.iload_n 2, 1) := dk_28 (dk_at dksJ4_resize_2 5 rfl rfl)
theorem dJ4_resize_54 : decode cJ4_resize 54 = .ok (.bipush 16, 2) := dk_16 16 (dk_at dksJ4_resize_2 6 rfl rfl)
theorem dJ4_resize_56 : decode cJ4_resize 56 = .ok (.if_icmp .lt 29, 3) := dk_161 0 29 (dk_at dksJ4_resize_2 8 rfl rfl)
theorem dJ4_resize_59 : decode cJ4_resize 59 = .ok (.iload_n 3, 1) := dk_29 (dk_at dksJ4_resize_2 11 rfl rfl)
theorem dJ4_resize_60 : decode cJ4_resize 60 = .ok (.iconst 1, 1) := dk_4 (dk_at dksJ4_resize_2 12 rfl rfl)
theorem dJ4_resize_61 : decode cJ4_resize 61 = .ok (.ishl, 1) := dk_120 (dk_at dksJ4_resize_2 13 rfl rfl)
theorem dJ4_resize_62 : decode cJ4_resize 62 = .ok (.istore 5, 2) := dk_54 5 (dk_at dksJ4_resize_2 14 rfl rfl)
theorem dJ4_resize_64 : decode cJ4_resize 64 = .ok (.goto 21, 3) := dk_167 0 21 (dk_at dksJ4_resize_2 16 rfl rfl)
theorem dJ4_resize_67 : decode cJ4_resize 67 = .ok (.iload_n 3, 1) := dk_29 (dk_at dksJ4_resize_2 19 rfl rfl)
theorem dJ4_resize_68 : decode cJ4_resize 68 = .ok (.ifCond .le 9, 3) := dk_158 0 9 (dk_at dksJ4_resize_2 20 rfl rfl)
theorem dJ4_resize_71 : decode cJ4_resize 71 = .ok (.iload_n 3, 1) := dk_29 (dk_at dksJ4_resize_2 23 rfl rfl)
theorem dJ4_resize_72 : decode cJ4_resize 72 = .ok (.istore 4, 2) := dk_54 4 (dk_at dksJ4_resize_3 0 rfl rfl)
theorem dJ4_resize_74 : decode cJ4_resize 74 = .ok (.goto 11, 3) := dk_167 0 11 (dk_at dksJ4_resize_3 2 rfl rfl)
theorem dJ4_resize_77 : decode cJ4_resize 77 = .ok (.bipush 16, 2) := dk_16 16 (dk_at dksJ4_resize_3 5 rfl rfl)
theorem dJ4_resize_79 : decode cJ4_resize 79 = .ok (.istore 4, 2) := dk_54 4 (dk_at dksJ4_resize_3 7 rfl rfl)
theorem dJ4_resize_81 : decode cJ4_resize 81 = .ok (.bipush 12, 2) := dk_16 12 (dk_at dksJ4_resize_3 9 rfl rfl)
theorem dJ4_resize_83 : decode cJ4_resize 83 = .ok (.istore 5, 2) := dk_54 5 (dk_at dksJ4_resize_3 11 rfl rfl)
theorem dJ4_resize_85 : decode cJ4_resize 85 = .ok (.iload 5, 2) := dk_21 5 (dk_at dksJ4_resize_3 13 rfl rfl)
theorem dJ4_resize_87 : decode cJ4_resize 87 = .ok (.ifCond .ne 38, 3) := dk_154 0 38 (dk_at dksJ4_resize_3 15 rfl rfl)
theorem dJ4_resize_90 : decode cJ4_resize 90 = .ok (.iload 4, 2) := dk_21 4 (dk_at dksJ4_resize_3 18 rfl rfl)
theorem dJ4_resize_92 : decode cJ4_resize 92 = .ok (.i2f, 1) := dk_134 (dk_at dksJ4_resize_3 20 rfl rfl)
theorem dJ4_resize_125 : decode cJ4_resize 125 = .ok (.aload_n 0, 1) := dk_42 (dk_at dksJ4_resize_5 7 rfl rfl)
theorem dJ4_resize_126 : decode cJ4_resize 126 = .ok (.iload 5, 2) := dk_21 5 (dk_at dksJ4_resize_5 8 rfl rfl)
theorem dJ4_resize_128 : decode cJ4_resize 128 = .ok (.putfield 88, 3) := dk_181 0 88 (dk_at dksJ4_resize_5 10 rfl rfl)
theorem dJ4_resize_131 : decode cJ4_resize 131 = .ok (.iload 4, 2) := dk_21 4 (dk_at dksJ4_resize_5 13 rfl rfl)
theorem dJ4_resize_133 : decode cJ4_resize 133 = .ok (.anewarray 163, 3) := dk_189 0 163 (dk_at dksJ4_resize_5 15 rfl rfl)
theorem dJ4_resize_136 : decode cJ4_resize 136 = .ok (.astore 6, 2) := dk_58 6 (dk_at dksJ4_resize_5 18 rfl rfl)
theorem dJ4_resize_138 : decode cJ4_resize 138 = .ok (.aload_n 0, 1) := dk_42 (dk_at dksJ4_resize_5 20 rfl rfl)
theorem dJ4_resize_139 : decode cJ4_resize 139 = .ok (.aload 6, 2) := dk_25 6 (dk_at dksJ4_resize_5 21 rfl rfl)
theorem dJ4_resize_141 : decode cJ4_resize 141 = .ok (.putfield 105, 3) := dk_181 0 105 (dk_at dksJ4_resize_6 0 rfl rfl)
theorem dJ4_resize_144 : decode cJ4_resize 144 = .ok (.aload_n 1, 1) := dk_43 (dk_at dksJ4_resize_6 3 rfl rfl)
theorem dJ4_resize_145 : decode cJ4_resize 145 = .ok (.ifnull 208, 3) := dk_198 0 208 (dk_at dksJ4_resize_6 4 rfl rfl)
theorem dJ4_resize_148 : decode cJ4_resize 148 = .ok (.iconst 0, 1) := dk_3 (dk_at dksJ4_resize_6 7 rfl rfl)
theorem dJ4_resize_149 : decode cJ4_resize 149 = .ok (.istore 7, 2) := dk_54 7 (dk_at dksJ4_resize_6 8 rfl rfl)
theorem dJ4_resize_151 : decode cJ4_resize 151 = .ok (.iload 7, 2) := dk_21 7 (dk_at dksJ4_resize_6 10 rfl rfl)
theorem dJ4_resize_153 : decode cJ4_resize 153 = .ok (.iload_n 2, 1) := dk_28 (dk_at dksJ4_resize_6 12 rfl rfl)
theorem dJ4_resize_154 : decode cJ4_resize 154 = .ok (.if_icmp .ge 199, 3) := dk_162 0 199 (dk_at dksJ4_resize_6 13 rfl rfl)
theorem dJ4_resize_157 : decode cJ4_resize 157 = .ok (.aload_n 1, 1) := dk_43 (dk_at dksJ4_resize_6 16 rfl rfl)
theorem dJ4_resize_158 : decode cJ4_resize 158 = .ok (.iload 7, 2) := dk_21 7 (dk_at dksJ4_resize_6 17 rfl rfl)
theorem dJ4_resize_160 : decode cJ4_resize 160 = .ok (.aaload, 1) := dk_50 (dk_at dksJ4_resize_6 19 rfl rfl)
theorem dJ4_resize_161 : decode cJ4_resize 161 = .ok (.dup, 1) := dk_89 (dk_at dksJ4_resize_6 20 rfl rfl)
theorem dJ4_resize_162 : decode cJ4_resize 162 = .ok (.astore 8, 2) := dk_58 8 (dk_at dksJ4_resize_6 21 rfl rfl)
theorem dJ4_resize_164 : decode cJ4_resize 164 = .ok (.ifnull 183, 3) := dk_198 0 183 (dk_at dksJ4_resize_7 0 rfl rfl)
theorem dJ4_resize_167 : decode cJ4_resize 167 = .ok (.aload_n 1, 1) := dk_43 (dk_at dksJ4_resize_7 3 rfl rfl)
theorem dJ4_resize_168 : decode cJ4_resize 168 = .ok (.iload 7, 2) := dk_21 7 (dk_at dksJ4_resize_7 4 rfl rfl)
theorem dJ4_resize_170 : decode cJ4_resize 170 = .ok (.aconst_null, 1) := dk_1 (dk_at dksJ4_resize_7 6 rfl rfl)
theorem dJ4_resize_171 : decode cJ4_resize 171 = .ok (.aastore, 1) := dk_83 (dk_at dksJ4_resize_7 7 rfl rfl)
theorem dJ4_resize_172 : decode cJ4_resize 172 = .ok (.aload 8, 2) := dk_25 8 (dk_at dksJ4_resize_7 8 rfl rfl)
theorem dJ4_resize_174 : decode cJ4_resize 174 = .ok (.getfield 177, 3) := dk_180 0 177 (dk_at dksJ4_resize_7 10 rfl rfl)
theorem dJ4_resize_177 : decode cJ4_resize 177 = .ok (.ifnonnull 21, 3) := dk_199 0 21 (dk_at dksJ4_resize_7 13 rfl rfl)
theorem dJ4_resize_180 : decode cJ4_resize 180 = .ok (.aload 6, 2) := dk_25 6 (dk_at dksJ4_resize_7 16 rfl rfl)
theorem dJ4_resize_182 : decode cJ4_resize 182 = .ok (.aload 8, 2) := dk_25 8 (dk_at dksJ4_resize_7 18 rfl rfl)
theorem dJ4_resize_184 : decode cJ4_resize 184 = .ok (.getfield 168, 3) := dk_180 0 168 (dk_at dksJ4_resize_7 20 rfl rfl)
theorem dJ4_resize_187 : decode cJ4_resize 187 = .ok (.iload 4, 2) := dk_21 4 (dk_at dksJ4_resize_8 0 rfl rfl)
theorem dJ4_resize_189 : decode cJ4_resize 189 = .ok (.iconst 1, 1) := dk_4 (dk_at dksJ4_resize_8 2 rfl rfl)
theorem dJ4_resize_190 : decode cJ4_resize 190 = .ok (.isub, 1) := dk_100 (dk_at dksJ4_resize_8 3 rfl rfl)
theorem dJ4_resize_191 : decode cJ4_resize 191 = .ok (.iand, 1) := dk_126 (dk_at dksJ4_resize_8 4 rfl rfl)
theorem dJ4_resize_192 : decode cJ4_resize 192 = .ok (.aload 8, 2) := dk_25 8 (dk_at dksJ4_resize_8 5 rfl rfl)
theorem dJ4_resize_194 : decode cJ4_resize 194 = .ok (.aastore, 1) := dk_83 (dk_at dksJ4_resize_8 7 rfl rfl)
theorem dJ4_resize_195 : decode cJ4_resize 195 = .ok (.goto 152, 3) := dk_167 0 152 (dk_at dksJ4_resize_8 8 rfl rfl)
theorem dJ4_resize_198 : decode cJ4_resize 198 = .ok (.aload 8, 2) := dk_25 8 (dk_at dksJ4_resize_8 11 rfl rfl)
theorem dJ4_resize_200 : decode cJ4_resize 200 = .ok (.instanceof 180, 3) := dk_193 0 180 (dk_at dksJ4_resize_8 13 rfl rfl)
theorem dJ4_resize_203 : decode cJ4_resize 203 = .ok (.ifCond .eq 20, 3) := dk_153 0 20 (dk_at dksJ4_resize_8 16 rfl rfl)
theorem dJ4_resize_206 : decode cJ4_resize 206 = .ok (.aload 8, 2) := dk_25 8 (dk_at dksJ4_resize_8 19 rfl rfl)
theorem dJ4_resize_208 : decode cJ4_resize 208 = .ok (.checkcast 180, 3) := dk_192 0 180 (dk_at dksJ4_resize_8 21 rfl rfl)
theorem dJ4_resize_211 : decode cJ4_resize 211 = .ok (.aload_n 0, 1) := dk_42 (dk_at dksJ4_resize_9 0 rfl rfl)
theorem dJ4_resize_212 : decode cJ4_resize 212 = .ok (.aload 6, 2) := dk_25 6 (dk_at dksJ4_resize_9 1 rfl rfl)
theorem dJ4_resize_214 : decode cJ4_resize 214 = .ok (.iload 7, 2) := dk_21 7 (dk_at dksJ4_resize_9 3 rfl rfl)
theorem dJ4_resize_216 : decode cJ4_resize 216 = .ok (.iload_n 2, 1) := dk_28 (dk_at dksJ4_resize_9 5 rfl rfl)
theorem dJ4_resize_217 : decode cJ4_resize 217 = .ok (.invokevirtual 211, 3) := dk_182 0 211 (dk_at dksJ4_resize_9 6 rfl rfl)
theorem dJ4_resize_223 : decode cJ4_resize 223 = .ok (.aconst_null, 1) := dk_1 (dk_at dksJ4_resize_9 12 rfl rfl)
theorem dJ4_resize_224 : decode cJ4_resize 224 = .ok (.astore 9, 2) := dk_58 9 (dk_at dksJ4_resize_9 13 rfl rfl)
theorem dJ4_resize_226 : decode cJ4_resize 226 = .ok (.aconst_null, 1) := dk_1 (dk_at dksJ4_resize_9 15 rfl rfl)
theorem dJ4_resize_227 : decode cJ4_resize 227 = .ok (.astore 10, 2) := dk_58 10 (dk_at dksJ4_resize_9 16 rfl rfl)
theorem dJ4_resize_229 : decode cJ4_resize 229 = .ok (.aconst_null, 1) := dk_1 (dk_at dksJ4_resize_9 18 rfl rfl)
theorem dJ4_resize_230 : decode cJ4_resize 230 = .ok (.astore 11, 2) := dk_58 11 (dk_at dksJ4_resize_9 19 rfl rfl)
theorem dJ4_resize_232 : decode cJ4_resize 232 = .ok (.aconst_null, 1) := dk_1 (dk_at dksJ4_resize_9 21 rfl rfl)
theorem dJ4_resize_233 : decode cJ4_resize 233 = .ok (.astore 12, 2) := dk_58 12 (dk_at dksJ4_resize_9 22 rfl rfl)
theorem dJ4_resize_235 : decode cJ4_resize 235 = .ok (.aload 8, 2) := dk_25 8 (dk_at dksJ4_resize_10 0 rfl rfl)
theorem dJ4_resize_237 : decode cJ4_resize 237 = .ok (.getfield 177, 3) := dk_180 0 177 (dk_at dksJ4_resize_10 2 rfl rfl)
theorem dJ4_resize_240 : decode cJ4_resize 240 = .ok (.astore 13, 2) := dk_58 13 (dk_at dksJ4_resize_10 5 rfl rfl)
theorem dJ4_resize_242 : decode cJ4_resize 242 = .ok (.aload 8, 2) := dk_25 8 (dk_at dksJ4_resize_10 7 rfl rfl)
theorem dJ4_resize_244 : decode cJ4_resize 244 = .ok (.getfield 168, 3) := dk_180 0 168 (dk_at dksJ4_resize_10 9 rfl rfl)
theorem dJ4_resize_247 : decode cJ4_resize 247 = .ok (.iload_n 2, 1) := dk_28 (dk_at dksJ4_resize_10 12 rfl rfl)
theorem dJ4_resize_248 : decode cJ4_resize 248 = .ok (.iand, 1) := dk_126 (dk_at dksJ4_resize_10 13 rfl rfl)
theorem dJ4_resize_249 : decode cJ4_resize 249 = .ok (.ifCond .ne 29, 3) := dk_154 0 29 (dk_at dksJ4_resize_10 14 rfl rfl)
theorem dJ4_resize_252 : decode cJ4_resize 252 = .ok (.aload 10, 2) := dk_25 10 (dk_at dksJ4_resize_10 17 rfl rfl)
theorem dJ4_resize_254 : decode cJ4_resize 254 = .ok (.ifnonnull 10, 3) := dk_199 0 10 (dk_at dksJ4_resize_10 19 rfl rfl)
theorem dJ4_resize_257 : decode cJ4_resize 257 = .ok (.aload 8, 2) := dk_25 8 (dk_at dksJ4_resize_10 22 rfl rfl)
theorem dJ4_resize_259 : decode cJ4_resize 259 = .ok (.astore 9, 2) := dk_58 9 (dk_at dksJ4_resize_11 0 rfl rfl)
theorem dJ4_resize_261 : decode cJ4_resize 261 = .ok (.goto 10, 3) := dk_167 0 10 (dk_at dksJ4_resize_11 2 rfl rfl)
theorem dJ4_resize_264 : decode cJ4_resize 264 = .ok (.aload 10, 2) := dk_25 10 (dk_at dksJ4_resize_11 5 rfl rfl)
theorem dJ4_resize_266 : decode cJ4_resize 266 = .ok (.aload 8, 2) := dk_25 8 (dk_at dksJ4_resize_11 7 rfl rfl)
theorem dJ4_resize_268 : decode cJ4_resize 268 = .ok (.putfield 177, 3) := dk_181 0 177 (dk_at dksJ4_resize_11 9 rfl rfl)
theorem dJ4_resize_271 : decode cJ4_resize 271 = .ok (.aload 8, 2) := dk_25 8 (dk_at dksJ4_resize_11 12 rfl rfl)
theorem dJ4_resize_273 : decode cJ4_resize 273 = .ok (.astore 10, 2) := dk_58 10 (dk_at dksJ4_resize_11 14 rfl rfl)
theorem dJ4_resize_275 : decode cJ4_resize 275 = .ok (.goto 26, 3) := dk_167 0 26 (dk_at dksJ4_resize_11 16 rfl rfl)
theorem dJ4_resize_278 : decode cJ4_resize 278 = .ok (.aload 12, 2) := dk_25 12 (dk_at dksJ4_resize_11 19 rfl rfl)
theorem dJ4_resize_280 : decode cJ4_resize 280 = .ok (.ifnonnull 10, 3) := dk_199 0 10 (dk_at dksJ4_resize_11 21 rfl rfl)
theorem dJ4_resize_283 : decode cJ4_resize 283 = .ok (.aload 8, 2) := dk_25 8 (dk_at dksJ4_resize_12 0 rfl rfl)
theorem dJ4_resize_285 : decode cJ4_resize 285 = .ok (.astore 11, 2) := dk_58 11 (dk_at dksJ4_resize_12 2 rfl rfl)
theorem dJ4_resize_287 : decode cJ4_resize 287 = .ok (.goto 10, 3) := dk_167 0 10 (dk_at dksJ4_resize_12 4 rfl rfl)
theorem dJ4_resize_290 : decode cJ4_resize 290 = .ok (.aload 12, 2) := dk_25 12 (dk_at dksJ4_resize_12 7 rfl rfl)
theorem dJ4_resize_292 : decode cJ4_resize 292 = .ok (.aload 8, 2) := dk_25 8 (dk_at dksJ4_resize_12 9 rfl rfl)
theorem dJ4_resize_294 : decode cJ4_resize 294 = .ok (.putfield 177, 3) := dk_181 0 177 (dk_at dksJ4_resize_12 11 rfl rfl)
theorem dJ4_resize_297 : decode cJ4_resize 297 = .ok (.aload 8, 2) := dk_25 8 (dk_at dksJ4_resize_12 14 rfl rfl)
theorem dJ4_resize_299 : decode cJ4_resize 299 = .ok (.astore 12, 2) := dk_58 12 (dk_at dksJ4_resize_12 16 rfl rfl)
theorem dJ4_resize_301 : decode cJ4_resize 301 = .ok (.aload 13, 2) := dk_25 13 (dk_at dksJ4_resize_12 18 rfl rfl)
theorem dJ4_resize_303 : decode cJ4_resize 303 = .ok (.dup, 1) := dk_89 (dk_at dksJ4_resize_12 20 rfl rfl)
theorem dJ4_resize_304 : decode cJ4_resize 304 = .ok (.astore 8, 2) := dk_58 8 (dk_at dksJ4_resize_12 21 rfl rfl)
theorem dJ4_resize_306 : decode cJ4_resize 306 = .ok (.ifnonnull (-71), 3) := dk_199 255 185 (dk_at dksJ4_resize_13 0 rfl rfl)
theorem dJ4_resize_309 : decode cJ4_resize 309 = .ok (.aload 10, 2) := dk_25 10 (dk_at dksJ4_resize_13 3 rfl rfl)
theorem dJ4_resize_311 : decode cJ4_resize 311 = .ok (.ifnull 16, 3) := dk_198 0 16 (dk_at dksJ4_resize_13 5 rfl rfl)
theorem dJ4_resize_314 : decode cJ4_resize 314 = .ok (.aload 10, 2) := dk_25 10 (dk_at dksJ4_resize_13 8 rfl rfl)
theorem dJ4_resize_316 : decode cJ4_resize 316 = .ok (.aconst_null, 1) := dk_1 (dk_at dksJ4_resize_13 10 rfl rfl)
theorem dJ4_resize_317 : decode cJ4_resize 317 = .ok (.putfield 177, 3) := dk_181 0 177 (dk_at dksJ4_resize_13 11 rfl rfl)
theorem dJ4_resize_320 : decode cJ4_resize 320 = .ok (.aload 6, 2) := dk_25 6 (dk_at dksJ4_resize_13 14 rfl rfl)
theorem dJ4_resize_322 : decode cJ4_resize 322 = .ok (.iload 7, 2) := dk_21 7 (dk_at dksJ4_resize_13 16 rfl rfl)
theorem dJ4_resize_324 : decode cJ4_resize 324 = .ok (.aload 9, 2) := dk_25 9 (dk_at dksJ4_resize_13 18 rfl rfl)
theorem dJ4_resize_326 : decode cJ4_resize 326 = .ok (.aastore, 1) := dk_83 (dk_at dksJ4_resize_13 20 rfl rfl)
theorem dJ4_resize_327 : decode cJ4_resize 327 = .ok (.aload 12, 2) := dk_25 12 (dk_at dksJ4_resize_13 21 rfl rfl)
theorem dJ4_resize_329 : decode cJ4_resize 329 = .ok (.ifnull 18, 3) := dk_198 0 18 (dk_at dksJ4_resize_14 0 rfl rfl)
theorem dJ4_resize_332 : decode cJ4_resize 332 = .ok (.aload 12, 2) := dk_25 12 (dk_at dksJ4_resize_14 3 rfl rfl)
theorem dJ4_resize_334 : decode cJ4_resize 334 = .ok (.aconst_null, 1) := dk_1 (dk_at dksJ4_resize_14 5 rfl rfl)
theorem dJ4_resize_335 : decode cJ4_resize 335 = .ok (.putfield 177, 3) := dk_181 0 177 (dk_at dksJ4_resize_14 6 rfl rfl)
theorem dJ4_resize_338 : decode cJ4_resize 338 = .ok (.aload 6, 2) := dk_25 6 (dk_at dksJ4_resize_14 9 rfl rfl)
theorem dJ4_resize_340 : decode cJ4_resize 340 = .ok (.iload 7, 2) := dk_21 7 (dk_at dksJ4_resize_14 11 rfl rfl)
theorem dJ4_resize_342 : decode cJ4_resize 342 = .ok (.iload_n 2, 1) := dk_28 (dk_at dksJ4_resize_14 13 rfl rfl)
theorem dJ4_resize_343 : decode cJ4_resize 343 = .ok (.iadd, 1) := dk_96 (dk_at dksJ4_resize_14 14 rfl rfl)
theorem dJ4_resize_344 : decode cJ4_resize 344 = .ok (.aload 11, 2) := dk_25 11 (dk_at dksJ4_resize_14 15 rfl rfl)
theorem dJ4_resize_346 : decode cJ4_resize 346 = .ok (.aastore, 1) := dk_83 (dk_at dksJ4_resize_14 17 rfl rfl)
theorem dJ4_resize_347 : decode cJ4_resize 347 = .ok (.iinc 7 1, 3) := dk_132 7 1 (dk_at dksJ4_resize_14 18 rfl rfl)
theorem dJ4_resize_350 : decode cJ4_resize 350 = .ok (.goto (-199), 3) := dk_167 255 57 (dk_at dksJ4_resize_14 21 rfl rfl)
theorem dJ4_resize_353 : decode cJ4_resize 353 = .ok (.aload 6, 2) := dk_25 6 (dk_at dksJ4_resize_15 0 rfl rfl)
theorem dJ4_resize_355 : decode cJ4_resize 355 = .ok (.areturn, 1) := dk_176 (dk_at dksJ4_resize_15 2 rfl rfl)
theorem zf_19_2_a_util_HashMap : zz_fok [19] 2 "java/util/HashMap" "table" "[Ljava/util/HashMap$Node;" := zz_fok1 (zR_19, zT_19, 8) rfl (by decide) rfl rfl (Or.inl rfl)
theorem q209 : (Jvm.Cond.fieldLink "java/util/HashMap" (105 : Nat) "java/util/HashMap" "table" "[Ljava/util/HashMap$Node;") ∈ lw_all := lw_g (lw_at lw_m1 129 rfl) rfl
theorem zf_19_6_a_util_HashMap : zz_fok [19] 6 "java/util/HashMap" "threshold" "I" := zz_fok1 (zR_19, zT_19, 8) rfl (by decide) rfl rfl (Or.inl rfl)
theorem q212 : (Jvm.Cond.fieldLink "java/util/HashMap" (88 : Nat) "java/util/HashMap" "threshold" "I") ∈ lw_all := lw_g (lw_at lw_m1 132 rfl) rfl
theorem q1329 : (Jvm.Cond.constant "java/util/HashMap" (42 : Nat) (1073741824 : Int32)) ∈ lw_all := lw_g (lw_at lw_m6 49 rfl) rfl
theorem q1330 : (Jvm.Cond.constant "java/util/HashMap" (209 : Nat) (2147483647 : Int32)) ∈ lw_all := lw_g (lw_at lw_m6 50 rfl) rfl
theorem zp_19_6 : zz_pok [19] 6 := zz_pok1 (zR_19, zT_19, 8) (by decide) rfl rfl
theorem q1332 : (Jvm.Cond.classLink "java/util/HashMap" (163 : Nat) "java/util/HashMap$Node") ∈ lw_all := lw_g (lw_at lw_m6 52 rfl) rfl
theorem zp_19_2 : zz_pok [19] 2 := zz_pok1 (zR_19, zT_19, 8) (by decide) rfl rfl
theorem zf_24_25_3_l_HashMap_Node : zz_fok [24, 25] 3 "java/util/HashMap$Node" "next" "Ljava/util/HashMap$Node;" := zz_fokC (zz_fok1 (zR_24, zT_24, 4) rfl (by decide) rfl rfl (Or.inl rfl)) (zz_fok1 (zR_25, zT_25, 11) rfl (by decide) rfl rfl (Or.inl rfl))
theorem q1367 : (Jvm.Cond.fieldLink "java/util/HashMap" (177 : Nat) "java/util/HashMap$Node" "next" "Ljava/util/HashMap$Node;") ∈ lw_all := lw_g (lw_at lw_m6 87 rfl) rfl
theorem q1334 : (Jvm.Cond.classLink "java/util/HashMap" (180 : Nat) "java/util/HashMap$TreeNode") ∈ lw_all := lw_g (lw_at lw_m6 54 rfl) rfl
theorem zc_25_shMap_TreeNode : zz_cok [25] "java/util/HashMap$TreeNode" := by
  intro t ht
  simp only [List.mem_cons, List.not_mem_nil, or_false] at ht
  rcases ht with rfl
  · exact ⟨(zR_25, zT_25, 11), rfl, Or.inl rfl⟩
theorem zn_21_24_shMap_TreeNode : zz_nok [21, 24] "java/util/HashMap$TreeNode" := by
  intro t ht
  simp only [List.mem_cons, List.not_mem_nil, or_false] at ht
  rcases ht with rfl | rfl
  · exact ⟨(zR_21, zT_21, 4), rfl, by decide +kernel⟩
  · exact ⟨(zR_24, zT_24, 4), rfl, by decide +kernel⟩
theorem zf_24_25_0_l_HashMap_Node : zz_fok [24, 25] 0 "java/util/HashMap$Node" "hash" "I" := zz_fokC (zz_fok1 (zR_24, zT_24, 4) rfl (by decide) rfl rfl (Or.inl rfl)) (zz_fok1 (zR_25, zT_25, 11) rfl (by decide) rfl rfl (Or.inl rfl))
theorem q1356 : (Jvm.Cond.fieldLink "java/util/HashMap" (168 : Nat) "java/util/HashMap$Node" "hash" "I") ∈ lw_all := lw_g (lw_at lw_m6 76 rfl) rfl
theorem zp_24_25_3 : zz_pok [24, 25] 3 := zz_pokC (zz_pok1 (zR_24, zT_24, 4) (by decide) rfl rfl) (zz_pok1 (zR_25, zT_25, 11) (by decide) rfl rfl)
def wp_J4_resize_B347 (Z : zzG) (k151 : Option Nat → Option Nat → Int32 → Int32 → Option Nat → Int32 → zzM → Nat → Nat → Prop) (K : Option Value → zzM → Prop) (v0 : Option Nat) (v1 : Option Nat) (v2 : Int32) (v4 : Int32) (v6 : Option Nat) (v7 : Int32) (M : zzM) (bc bs : Nat) : Prop := k151 v0 v1 v2 v4 v6 (v7 + 1) M bc bs
def wp_J4_resize_B327 (Z : zzG) (k151 : Option Nat → Option Nat → Int32 → Int32 → Option Nat → Int32 → zzM → Nat → Nat → Prop) (K : Option Value → zzM → Prop) (v0 : Option Nat) (v1 : Option Nat) (v2 : Int32) (v4 : Int32) (v6 : Option Nat) (v7 : Int32) (v11 : Option Nat) (v12 : Option Nat) (M : zzM) (bc bs : Nat) : Prop := if v12 = none then (wp_J4_resize_B347 Z k151 K v0 v1 v2 v4 v6 v7 M bc bs) else (zput Z M v12 [24, 25] 3 (va_rf none) fun M23 => zastA Z M23 v6 (v7 + v2) v11 fun M24 => wp_J4_resize_B347 Z k151 K v0 v1 v2 v4 v6 v7 M24 bc bs)
def wp_J4_resize_B301 (Z : zzG) (k151 : Option Nat → Option Nat → Int32 → Int32 → Option Nat → Int32 → zzM → Nat → Nat → Prop) (k235 : Option Nat → Option Nat → Int32 → Int32 → Option Nat → Int32 → Option Nat → Option Nat → Option Nat → Option Nat → Option Nat → zzM → Nat → Nat → Prop) (K : Option Value → zzM → Prop) (v0 : Option Nat) (v1 : Option Nat) (v2 : Int32) (v4 : Int32) (v6 : Option Nat) (v7 : Int32) (v9 : Option Nat) (v10 : Option Nat) (v11 : Option Nat) (v12 : Option Nat) (v13 : Option Nat) (M : zzM) (bc bs : Nat) : Prop := if v13 = none then (if v10 = none then (wp_J4_resize_B327 Z k151 K v0 v1 v2 v4 v6 v7 v11 v12 M bc bs) else (zput Z M v10 [24, 25] 3 (va_rf none) fun M21 => zastA Z M21 v6 v7 v9 fun M22 => wp_J4_resize_B327 Z k151 K v0 v1 v2 v4 v6 v7 v11 v12 M22 bc bs)) else (k235 v0 v1 v2 v4 v6 v7 v13 v9 v10 v11 v12 M bc bs)
def wp_J4_resize_B271 (Z : zzG) (k151 : Option Nat → Option Nat → Int32 → Int32 → Option Nat → Int32 → zzM → Nat → Nat → Prop) (k235 : Option Nat → Option Nat → Int32 → Int32 → Option Nat → Int32 → Option Nat → Option Nat → Option Nat → Option Nat → Option Nat → zzM → Nat → Nat → Prop) (K : Option Value → zzM → Prop) (v0 : Option Nat) (v1 : Option Nat) (v2 : Int32) (v4 : Int32) (v6 : Option Nat) (v7 : Int32) (v8 : Option Nat) (v9 : Option Nat) (v11 : Option Nat) (v12 : Option Nat) (v13 : Option Nat) (M : zzM) (bc bs : Nat) : Prop := wp_J4_resize_B301 Z k151 k235 K v0 v1 v2 v4 v6 v7 v9 v8 v11 v12 v13 M bc bs
def wp_J4_resize_B297 (Z : zzG) (k151 : Option Nat → Option Nat → Int32 → Int32 → Option Nat → Int32 → zzM → Nat → Nat → Prop) (k235 : Option Nat → Option Nat → Int32 → Int32 → Option Nat → Int32 → Option Nat → Option Nat → Option Nat → Option Nat → Option Nat → zzM → Nat → Nat → Prop) (K : Option Value → zzM → Prop) (v0 : Option Nat) (v1 : Option Nat) (v2 : Int32) (v4 : Int32) (v6 : Option Nat) (v7 : Int32) (v8 : Option Nat) (v9 : Option Nat) (v10 : Option Nat) (v11 : Option Nat) (v13 : Option Nat) (M : zzM) (bc bs : Nat) : Prop := wp_J4_resize_B301 Z k151 k235 K v0 v1 v2 v4 v6 v7 v9 v10 v11 v8 v13 M bc bs
def wp_J4_resize_L235 (Z : zzG) (k151 : Option Nat → Option Nat → Int32 → Int32 → Option Nat → Int32 → zzM → Nat → Nat → Prop) (K : Option Value → zzM → Prop) : Nat → Option Nat → Option Nat → Int32 → Int32 → Option Nat → Int32 → Option Nat → Option Nat → Option Nat → Option Nat → Option Nat → zzM → Nat → Nat → Prop
  | 0, _, _, _, _, _, _, _, _, _, _, _, _, _, _ => False
  | n + 1, v0, v1, v2, v4, v6, v7, v8, v9, v10, v11, v12, M, bc, bs => zgA Z M v8 [24, 25] 3 fun x17 => zgI Z M v8 [24, 25] 0 fun x18 => if (x18 &&& v2) = 0 then (if v10 = none then (wp_J4_resize_B271 Z k151 (wp_J4_resize_L235 Z k151 K n) K v0 v1 v2 v4 v6 v7 v8 v8 v11 v12 x17 M bc bs) else (zput Z M v10 [24, 25] 3 (va_rf v8) fun M20 => wp_J4_resize_B271 Z k151 (wp_J4_resize_L235 Z k151 K n) K v0 v1 v2 v4 v6 v7 v8 v9 v11 v12 x17 M20 bc bs)) else (if v12 = none then (wp_J4_resize_B297 Z k151 (wp_J4_resize_L235 Z k151 K n) K v0 v1 v2 v4 v6 v7 v8 v9 v10 v8 x17 M bc bs) else (zput Z M v12 [24, 25] 3 (va_rf v8) fun M19 => wp_J4_resize_B297 Z k151 (wp_J4_resize_L235 Z k151 K n) K v0 v1 v2 v4 v6 v7 v8 v9 v10 v11 x17 M19 bc bs))
def wp_J4_resize_B353 (Z : zzG) (K : Option Value → zzM → Prop) (v6 : Option Nat) (M : zzM) (bc bs : Nat) : Prop := K (some (va_rf v6)) M
def wp_J4_resize_L151 (Z : zzG) (K : Option Value → zzM → Prop) : Nat → Option Nat → Option Nat → Int32 → Int32 → Option Nat → Int32 → zzM → Nat → Nat → Prop
  | 0, _, _, _, _, _, _, _, _, _ => False
  | n + 1, v0, v1, v2, v4, v6, v7, M, bc, bs => if v2 ≤ v7 then (wp_J4_resize_B353 Z K v6 M bc bs) else (zaA Z M v1 [103, 104, 105] v7 fun x11 => if x11 = none then (wp_J4_resize_B347 Z (wp_J4_resize_L151 Z K n) K v0 v1 v2 v4 v6 v7 M bc bs) else (zastA Z M v1 v7 none fun M12 => zgA Z M12 x11 [24, 25] 3 fun x13 => if x13 = none then (zgI Z M12 x11 [24, 25] 0 fun x15 => zastA Z M12 v6 (x15 &&& (v4 - (1 : Int32))) x11 fun M16 => wp_J4_resize_B347 Z (wp_J4_resize_L151 Z K n) K v0 v1 v2 v4 v6 v7 M16 bc bs) else (zinst Z M12 x11 [25] [21, 24] fun x14 => if x14 = 0 then (∃ n235 : Nat, wp_J4_resize_L235 Z (wp_J4_resize_L151 Z K n) K n235 v0 v1 v2 v4 v6 v7 x11 none none none none M12 bc bs) else (zcast Z M12 x11 [25] <| False))))
def wp_J4_resize_B85 (Z : zzG) (K : Option Value → zzM → Prop) (v0 : Option Nat) (v1 : Option Nat) (v2 : Int32) (v4 : Int32) (v5 : Int32) (M : zzM) (bc bs : Nat) : Prop := if v5 = 0 then (False) else (zput Z M v0 [19] 6 (.int v5) fun M5 => znar Z M5 bc bs 104 v4 .null fun q6 M7 bc8 bs9 => zput Z M7 v0 [19] 2 (va_rf (some q6)) fun M10 => if v1 = none then (wp_J4_resize_B353 Z K (some q6) M10 bc8 bs9) else (∃ n151 : Nat, wp_J4_resize_L151 Z K n151 v0 v1 v2 v4 (some q6) (0 : Int32) M10 bc8 bs9))
def wp_J4_resize_B15 (Z : zzG) (K : Option Value → zzM → Prop) (v0 : Option Nat) (v1 : Option Nat) (s0 : Int32) (M : zzM) (bc bs : Nat) : Prop := zgI Z M v0 [19] 6 fun x3 => if s0 ≤ 0 then (if x3 ≤ 0 then (wp_J4_resize_B85 Z K v0 v1 s0 (16 : Int32) (12 : Int32) M bc bs) else (wp_J4_resize_B85 Z K v0 v1 s0 x3 (0 : Int32) M bc bs)) else (if s0 < (1073741824 : Int32) then (if (1073741824 : Int32) ≤ (s0 <<< ((1 : Int32) &&& 31)) then (wp_J4_resize_B85 Z K v0 v1 s0 (s0 <<< ((1 : Int32) &&& 31)) (0 : Int32) M bc bs) else (if s0 < (16 : Int32) then (wp_J4_resize_B85 Z K v0 v1 s0 (s0 <<< ((1 : Int32) &&& 31)) (0 : Int32) M bc bs) else (wp_J4_resize_B85 Z K v0 v1 s0 (s0 <<< ((1 : Int32) &&& 31)) (x3 <<< ((1 : Int32) &&& 31)) M bc bs))) else (zput Z M v0 [19] 6 (.int (2147483647 : Int32)) fun M4 => K (some (va_rf v1)) M4))
def wp_J4_resize (Z : zzG) (this : Option Nat) (M : zzM) (bc bs : Nat) (K : Option Value → zzM → Prop) : Prop := zgA Z M this [19] 2 fun x1 => if x1 = none then (wp_J4_resize_B15 Z K this x1 (0 : Int32) M bc bs) else (zlen Z M x1 fun x2 => wp_J4_resize_B15 Z K this x1 x2 M bc bs)
theorem ok_J4_resize_B347 {G : zzX} (C : zz_C G cJ4_resize "java/util/HashMap" 14) {K : Option Value → zzM → Prop} (E : zz_E G (some (.array (.object "java/util/HashMap$Node"))) K (fun _ _ _ => False)) (hH : zz_H G []) (hR : zz_Rm G 1) {k151 : Option Nat → Option Nat → Int32 → Int32 → Option Nat → Int32 → zzM → Nat → Nat → Prop} (hk151 : ∀ (z0 : Option Nat) (z1 : Option Nat) (z2 : Int32) (z3 : Int32) (z4 : Option Nat) (z5 : Int32) (M : zzM) (bc bs : Nat), k151 z0 z1 z2 z3 z4 z5 M bc bs → zz_T G 14 M bc bs 151 [(0, va_rf z0), (1, va_rf z1), (2, .int z2), (4, .int z3), (6, va_rf z4), (7, .int z5)] []) {v0 : Option Nat} {v1 : Option Nat} {v2 : Int32} {v4 : Int32} {v6 : Option Nat} {v7 : Int32} {M : zzM} {bc bs : Nat} (hw : wp_J4_resize_B347 (zz_Zof G) k151 K v0 v1 v2 v4 v6 v7 M bc bs) : zz_T G 14 M bc bs 347 [(0, va_rf v0), (1, va_rf v1), (2, .int v2), (4, .int v4), (6, va_rf v6), (7, .int v7)] [] := by
  unfold wp_J4_resize_B347 at hw
  refine zz_iinc (lv' := [(7, .int (v7 + 1)), (0, va_rf v0), (1, va_rf v1), (2, .int v2), (4, .int v4), (6, va_rf v6)]) C dJ4_resize_347 5 rfl (by rfl) (by decide) (by simp [zz_cat, zz_catI, zz_catJ, zz_catD]) ?_
  refine zz_goto (tgt := 151) C dJ4_resize_350 (by decide) ?_
  refine zz_subP [1, 2, 3, 4, 5, 0] rfl ?_
  exact hk151 _ _ _ _ _ _ _ _ _ hw
theorem ok_J4_resize_B327 {G : zzX} (C : zz_C G cJ4_resize "java/util/HashMap" 14) {K : Option Value → zzM → Prop} (E : zz_E G (some (.array (.object "java/util/HashMap$Node"))) K (fun _ _ _ => False)) (hH : zz_H G []) (hR : zz_Rm G 1) {k151 : Option Nat → Option Nat → Int32 → Int32 → Option Nat → Int32 → zzM → Nat → Nat → Prop} (hk151 : ∀ (z0 : Option Nat) (z1 : Option Nat) (z2 : Int32) (z3 : Int32) (z4 : Option Nat) (z5 : Int32) (M : zzM) (bc bs : Nat), k151 z0 z1 z2 z3 z4 z5 M bc bs → zz_T G 14 M bc bs 151 [(0, va_rf z0), (1, va_rf z1), (2, .int z2), (4, .int z3), (6, va_rf z4), (7, .int z5)] []) {v0 : Option Nat} {v1 : Option Nat} {v2 : Int32} {v4 : Int32} {v6 : Option Nat} {v7 : Int32} {v11 : Option Nat} {v12 : Option Nat} {M : zzM} {bc bs : Nat} (hw : wp_J4_resize_B327 (zz_Zof G) k151 K v0 v1 v2 v4 v6 v7 v11 v12 M bc bs) : zz_T G 14 M bc bs 327 [(0, va_rf v0), (1, va_rf v1), (2, .int v2), (4, .int v4), (6, va_rf v6), (7, .int v7), (11, va_rf v11), (12, va_rf v12)] [] := by
  unfold wp_J4_resize_B327 at hw
  refine zz_aload C dJ4_resize_327 7 rfl ?_
  refine zz_ifnull (tgt := 347) C dJ4_resize_329 (by decide) hw (fun hw => ?_) (fun hw => ?_)
  · refine zz_subP [0, 1, 2, 3, 4, 5] rfl ?_
    exact ok_J4_resize_B347 C E hH hR hk151 hw
  · refine zz_aload C dJ4_resize_332 7 rfl ?_
    refine zz_null C dJ4_resize_334 ?_
    refine zz_put C dJ4_resize_335 (Or.inl q1367) zf_24_25_3_l_HashMap_Node zp_24_25_3 (zz_hnC (zz_nA _ rfl none) (zz_hn1 (zz_nA _ rfl none))) hw (fun M23 hw => ?_)
    refine zz_aload C dJ4_resize_338 4 rfl ?_
    refine zz_iload C dJ4_resize_340 5 rfl ?_
    refine zz_iload_n C dJ4_resize_342 rfl 2 rfl ?_
    refine zz_iadd C dJ4_resize_343 ?_
    refine zz_aload C dJ4_resize_344 6 rfl ?_
    refine zz_aast C dJ4_resize_346 hw (fun M24 hw => ?_)
    refine zz_subP [0, 1, 2, 3, 4, 5] rfl ?_
    exact ok_J4_resize_B347 C E hH hR hk151 hw
theorem ok_J4_resize_B301 {G : zzX} (C : zz_C G cJ4_resize "java/util/HashMap" 14) {K : Option Value → zzM → Prop} (E : zz_E G (some (.array (.object "java/util/HashMap$Node"))) K (fun _ _ _ => False)) (hH : zz_H G []) (hR : zz_Rm G 1) {k151 : Option Nat → Option Nat → Int32 → Int32 → Option Nat → Int32 → zzM → Nat → Nat → Prop} (hk151 : ∀ (z0 : Option Nat) (z1 : Option Nat) (z2 : Int32) (z3 : Int32) (z4 : Option Nat) (z5 : Int32) (M : zzM) (bc bs : Nat), k151 z0 z1 z2 z3 z4 z5 M bc bs → zz_T G 14 M bc bs 151 [(0, va_rf z0), (1, va_rf z1), (2, .int z2), (4, .int z3), (6, va_rf z4), (7, .int z5)] []) {k235 : Option Nat → Option Nat → Int32 → Int32 → Option Nat → Int32 → Option Nat → Option Nat → Option Nat → Option Nat → Option Nat → zzM → Nat → Nat → Prop} (hk235 : ∀ (z0 : Option Nat) (z1 : Option Nat) (z2 : Int32) (z3 : Int32) (z4 : Option Nat) (z5 : Int32) (z6 : Option Nat) (z7 : Option Nat) (z8 : Option Nat) (z9 : Option Nat) (z10 : Option Nat) (M : zzM) (bc bs : Nat), k235 z0 z1 z2 z3 z4 z5 z6 z7 z8 z9 z10 M bc bs → zz_T G 14 M bc bs 235 [(0, va_rf z0), (1, va_rf z1), (2, .int z2), (4, .int z3), (6, va_rf z4), (7, .int z5), (8, va_rf z6), (9, va_rf z7), (10, va_rf z8), (11, va_rf z9), (12, va_rf z10)] []) {v0 : Option Nat} {v1 : Option Nat} {v2 : Int32} {v4 : Int32} {v6 : Option Nat} {v7 : Int32} {v9 : Option Nat} {v10 : Option Nat} {v11 : Option Nat} {v12 : Option Nat} {v13 : Option Nat} {M : zzM} {bc bs : Nat} (hw : wp_J4_resize_B301 (zz_Zof G) k151 k235 K v0 v1 v2 v4 v6 v7 v9 v10 v11 v12 v13 M bc bs) : zz_T G 14 M bc bs 301 [(0, va_rf v0), (1, va_rf v1), (2, .int v2), (4, .int v4), (6, va_rf v6), (7, .int v7), (9, va_rf v9), (10, va_rf v10), (11, va_rf v11), (12, va_rf v12), (13, va_rf v13)] [] := by
  unfold wp_J4_resize_B301 at hw
  refine zz_aload C dJ4_resize_301 10 rfl ?_
  refine zz_dup C dJ4_resize_303 (zz_cat _) ?_
  refine zz_astore (lv' := [(8, va_rf v13), (0, va_rf v0), (1, va_rf v1), (2, .int v2), (4, .int v4), (6, va_rf v6), (7, .int v7), (9, va_rf v9), (10, va_rf v10), (11, va_rf v11), (12, va_rf v12), (13, va_rf v13)]) C dJ4_resize_304 (by decide) rfl ?_
  refine zz_ifnonnull (tgt := 235) C dJ4_resize_306 (by decide) hw (fun hw => ?_) (fun hw => ?_)
  · refine zz_subP [1, 2, 3, 4, 5, 6, 0, 7, 8, 9, 10] rfl ?_
    exact hk235 _ _ _ _ _ _ _ _ _ _ _ _ _ _ hw
  · refine zz_aload C dJ4_resize_309 8 rfl ?_
    refine zz_ifnull (tgt := 327) C dJ4_resize_311 (by decide) hw (fun hw => ?_) (fun hw => ?_)
    · refine zz_subP [1, 2, 3, 4, 5, 6, 9, 10] rfl ?_
      exact ok_J4_resize_B327 C E hH hR hk151 hw
    · refine zz_aload C dJ4_resize_314 8 rfl ?_
      refine zz_null C dJ4_resize_316 ?_
      refine zz_put C dJ4_resize_317 (Or.inl q1367) zf_24_25_3_l_HashMap_Node zp_24_25_3 (zz_hnC (zz_nA _ rfl none) (zz_hn1 (zz_nA _ rfl none))) hw (fun M21 hw => ?_)
      refine zz_aload C dJ4_resize_320 5 rfl ?_
      refine zz_iload C dJ4_resize_322 6 rfl ?_
      refine zz_aload C dJ4_resize_324 7 rfl ?_
      refine zz_aast C dJ4_resize_326 hw (fun M22 hw => ?_)
      refine zz_subP [1, 2, 3, 4, 5, 6, 9, 10] rfl ?_
      exact ok_J4_resize_B327 C E hH hR hk151 hw
theorem ok_J4_resize_B271 {G : zzX} (C : zz_C G cJ4_resize "java/util/HashMap" 14) {K : Option Value → zzM → Prop} (E : zz_E G (some (.array (.object "java/util/HashMap$Node"))) K (fun _ _ _ => False)) (hH : zz_H G []) (hR : zz_Rm G 1) {k151 : Option Nat → Option Nat → Int32 → Int32 → Option Nat → Int32 → zzM → Nat → Nat → Prop} (hk151 : ∀ (z0 : Option Nat) (z1 : Option Nat) (z2 : Int32) (z3 : Int32) (z4 : Option Nat) (z5 : Int32) (M : zzM) (bc bs : Nat), k151 z0 z1 z2 z3 z4 z5 M bc bs → zz_T G 14 M bc bs 151 [(0, va_rf z0), (1, va_rf z1), (2, .int z2), (4, .int z3), (6, va_rf z4), (7, .int z5)] []) {k235 : Option Nat → Option Nat → Int32 → Int32 → Option Nat → Int32 → Option Nat → Option Nat → Option Nat → Option Nat → Option Nat → zzM → Nat → Nat → Prop} (hk235 : ∀ (z0 : Option Nat) (z1 : Option Nat) (z2 : Int32) (z3 : Int32) (z4 : Option Nat) (z5 : Int32) (z6 : Option Nat) (z7 : Option Nat) (z8 : Option Nat) (z9 : Option Nat) (z10 : Option Nat) (M : zzM) (bc bs : Nat), k235 z0 z1 z2 z3 z4 z5 z6 z7 z8 z9 z10 M bc bs → zz_T G 14 M bc bs 235 [(0, va_rf z0), (1, va_rf z1), (2, .int z2), (4, .int z3), (6, va_rf z4), (7, .int z5), (8, va_rf z6), (9, va_rf z7), (10, va_rf z8), (11, va_rf z9), (12, va_rf z10)] []) {v0 : Option Nat} {v1 : Option Nat} {v2 : Int32} {v4 : Int32} {v6 : Option Nat} {v7 : Int32} {v8 : Option Nat} {v9 : Option Nat} {v11 : Option Nat} {v12 : Option Nat} {v13 : Option Nat} {M : zzM} {bc bs : Nat} (hw : wp_J4_resize_B271 (zz_Zof G) k151 k235 K v0 v1 v2 v4 v6 v7 v8 v9 v11 v12 v13 M bc bs) : zz_T G 14 M bc bs 271 [(0, va_rf v0), (1, va_rf v1), (2, .int v2), (4, .int v4), (6, va_rf v6), (7, .int v7), (8, va_rf v8), (9, va_rf v9), (11, va_rf v11), (12, va_rf v12), (13, va_rf v13)] [] := by
  unfold wp_J4_resize_B271 at hw
  refine zz_aload C dJ4_resize_271 6 rfl ?_
  refine zz_astore (lv' := [(10, va_rf v8), (0, va_rf v0), (1, va_rf v1), (2, .int v2), (4, .int v4), (6, va_rf v6), (7, .int v7), (8, va_rf v8), (9, va_rf v9), (11, va_rf v11), (12, va_rf v12), (13, va_rf v13)]) C dJ4_resize_273 (by decide) (by simp [zz_cat, zz_catI, zz_catJ, zz_catD]) ?_
  refine zz_goto (tgt := 301) C dJ4_resize_275 (by decide) ?_
  refine zz_subP [1, 2, 3, 4, 5, 6, 8, 0, 9, 10, 11] rfl ?_
  exact ok_J4_resize_B301 C E hH hR hk151 hk235 hw
theorem ok_J4_resize_B297 {G : zzX} (C : zz_C G cJ4_resize "java/util/HashMap" 14) {K : Option Value → zzM → Prop} (E : zz_E G (some (.array (.object "java/util/HashMap$Node"))) K (fun _ _ _ => False)) (hH : zz_H G []) (hR : zz_Rm G 1) {k151 : Option Nat → Option Nat → Int32 → Int32 → Option Nat → Int32 → zzM → Nat → Nat → Prop} (hk151 : ∀ (z0 : Option Nat) (z1 : Option Nat) (z2 : Int32) (z3 : Int32) (z4 : Option Nat) (z5 : Int32) (M : zzM) (bc bs : Nat), k151 z0 z1 z2 z3 z4 z5 M bc bs → zz_T G 14 M bc bs 151 [(0, va_rf z0), (1, va_rf z1), (2, .int z2), (4, .int z3), (6, va_rf z4), (7, .int z5)] []) {k235 : Option Nat → Option Nat → Int32 → Int32 → Option Nat → Int32 → Option Nat → Option Nat → Option Nat → Option Nat → Option Nat → zzM → Nat → Nat → Prop} (hk235 : ∀ (z0 : Option Nat) (z1 : Option Nat) (z2 : Int32) (z3 : Int32) (z4 : Option Nat) (z5 : Int32) (z6 : Option Nat) (z7 : Option Nat) (z8 : Option Nat) (z9 : Option Nat) (z10 : Option Nat) (M : zzM) (bc bs : Nat), k235 z0 z1 z2 z3 z4 z5 z6 z7 z8 z9 z10 M bc bs → zz_T G 14 M bc bs 235 [(0, va_rf z0), (1, va_rf z1), (2, .int z2), (4, .int z3), (6, va_rf z4), (7, .int z5), (8, va_rf z6), (9, va_rf z7), (10, va_rf z8), (11, va_rf z9), (12, va_rf z10)] []) {v0 : Option Nat} {v1 : Option Nat} {v2 : Int32} {v4 : Int32} {v6 : Option Nat} {v7 : Int32} {v8 : Option Nat} {v9 : Option Nat} {v10 : Option Nat} {v11 : Option Nat} {v13 : Option Nat} {M : zzM} {bc bs : Nat} (hw : wp_J4_resize_B297 (zz_Zof G) k151 k235 K v0 v1 v2 v4 v6 v7 v8 v9 v10 v11 v13 M bc bs) : zz_T G 14 M bc bs 297 [(0, va_rf v0), (1, va_rf v1), (2, .int v2), (4, .int v4), (6, va_rf v6), (7, .int v7), (8, va_rf v8), (9, va_rf v9), (10, va_rf v10), (11, va_rf v11), (13, va_rf v13)] [] := by
  unfold wp_J4_resize_B297 at hw
  refine zz_aload C dJ4_resize_297 6 rfl ?_
  refine zz_astore (lv' := [(12, va_rf v8), (0, va_rf v0), (1, va_rf v1), (2, .int v2), (4, .int v4), (6, va_rf v6), (7, .int v7), (8, va_rf v8), (9, va_rf v9), (10, va_rf v10), (11, va_rf v11), (13, va_rf v13)]) C dJ4_resize_299 (by decide) (by simp [zz_cat, zz_catI, zz_catJ, zz_catD]) ?_
  refine zz_subP [1, 2, 3, 4, 5, 6, 8, 9, 10, 0, 11] rfl ?_
  exact ok_J4_resize_B301 C E hH hR hk151 hk235 hw
theorem ok_J4_resize_L235 {G : zzX} (C : zz_C G cJ4_resize "java/util/HashMap" 14) {K : Option Value → zzM → Prop} (E : zz_E G (some (.array (.object "java/util/HashMap$Node"))) K (fun _ _ _ => False)) (hH : zz_H G []) (hR : zz_Rm G 1) {k151 : Option Nat → Option Nat → Int32 → Int32 → Option Nat → Int32 → zzM → Nat → Nat → Prop} (hk151 : ∀ (z0 : Option Nat) (z1 : Option Nat) (z2 : Int32) (z3 : Int32) (z4 : Option Nat) (z5 : Int32) (M : zzM) (bc bs : Nat), k151 z0 z1 z2 z3 z4 z5 M bc bs → zz_T G 14 M bc bs 151 [(0, va_rf z0), (1, va_rf z1), (2, .int z2), (4, .int z3), (6, va_rf z4), (7, .int z5)] []) : ∀ (n : Nat) (v0 : Option Nat) (v1 : Option Nat) (v2 : Int32) (v4 : Int32) (v6 : Option Nat) (v7 : Int32) (v8 : Option Nat) (v9 : Option Nat) (v10 : Option Nat) (v11 : Option Nat) (v12 : Option Nat) (M : zzM) (bc bs : Nat), wp_J4_resize_L235 (zz_Zof G) k151 K n v0 v1 v2 v4 v6 v7 v8 v9 v10 v11 v12 M bc bs → zz_T G 14 M bc bs 235 [(0, va_rf v0), (1, va_rf v1), (2, .int v2), (4, .int v4), (6, va_rf v6), (7, .int v7), (8, va_rf v8), (9, va_rf v9), (10, va_rf v10), (11, va_rf v11), (12, va_rf v12)] [] := by
  intro n
  induction n with
  | zero =>
    intro v0 v1 v2 v4 v6 v7 v8 v9 v10 v11 v12 M bc bs hw
    exact False.elim hw
  | succ n ih =>
    intro v0 v1 v2 v4 v6 v7 v8 v9 v10 v11 v12 M bc bs hw
    refine zz_aload C dJ4_resize_235 6 rfl ?_
    refine zz_getA C dJ4_resize_237 (Or.inl q1367) zf_24_25_3_l_HashMap_Node hw (fun x17 hw => ?_)
    refine zz_astore (lv' := [(13, va_rf x17), (0, va_rf v0), (1, va_rf v1), (2, .int v2), (4, .int v4), (6, va_rf v6), (7, .int v7), (8, va_rf v8), (9, va_rf v9), (10, va_rf v10), (11, va_rf v11), (12, va_rf v12)]) C dJ4_resize_240 (by decide) (by simp [zz_cat, zz_catI, zz_catJ, zz_catD]) ?_
    refine zz_aload C dJ4_resize_242 7 rfl ?_
    refine zz_getI C dJ4_resize_244 (Or.inl q1356) zf_24_25_0_l_HashMap_Node hw (fun x18 hw => ?_)
    refine zz_iload_n C dJ4_resize_247 rfl 3 rfl ?_
    refine zz_iand C dJ4_resize_248 ?_
    refine zz_if_ne (tgt := 278) C dJ4_resize_249 (by decide) hw (fun hw => ?_) (fun hw => ?_)
    · refine zz_aload C dJ4_resize_278 11 rfl ?_
      refine zz_ifnonnull (tgt := 290) C dJ4_resize_280 (by decide) hw (fun hw => ?_) (fun hw => ?_)
      · refine zz_aload C dJ4_resize_290 11 rfl ?_
        refine zz_aload C dJ4_resize_292 7 rfl ?_
        refine zz_put C dJ4_resize_294 (Or.inl q1367) zf_24_25_3_l_HashMap_Node zp_24_25_3 (zz_hnC (zz_nA _ rfl v8) (zz_hn1 (zz_nA _ rfl v8))) hw (fun M19 hw => ?_)
        refine zz_subP [1, 2, 3, 4, 5, 6, 7, 8, 9, 10, 0] rfl ?_
        exact ok_J4_resize_B297 C E hH hR hk151 (fun z0 z1 z2 z3 z4 z5 z6 z7 z8 z9 z10 z11 z12 z13 hw => ih z0 z1 z2 z3 z4 z5 z6 z7 z8 z9 z10 z11 z12 z13 hw) hw
      · refine zz_aload C dJ4_resize_283 7 rfl ?_
        refine zz_astore (lv' := [(11, va_rf v8), (13, va_rf x17), (0, va_rf v0), (1, va_rf v1), (2, .int v2), (4, .int v4), (6, va_rf v6), (7, .int v7), (8, va_rf v8), (9, va_rf v9), (10, va_rf v10), (12, va_rf v12)]) C dJ4_resize_285 (by decide) (by simp [zz_cat, zz_catI, zz_catJ, zz_catD]) ?_
        refine zz_goto (tgt := 297) C dJ4_resize_287 (by decide) ?_
        refine zz_subP [2, 3, 4, 5, 6, 7, 8, 9, 10, 0, 1] rfl ?_
        exact ok_J4_resize_B297 C E hH hR hk151 (fun z0 z1 z2 z3 z4 z5 z6 z7 z8 z9 z10 z11 z12 z13 hw => ih z0 z1 z2 z3 z4 z5 z6 z7 z8 z9 z10 z11 z12 z13 hw) hw
    · refine zz_aload C dJ4_resize_252 9 rfl ?_
      refine zz_ifnonnull (tgt := 264) C dJ4_resize_254 (by decide) hw (fun hw => ?_) (fun hw => ?_)
      · refine zz_aload C dJ4_resize_264 9 rfl ?_
        refine zz_aload C dJ4_resize_266 7 rfl ?_
        refine zz_put C dJ4_resize_268 (Or.inl q1367) zf_24_25_3_l_HashMap_Node zp_24_25_3 (zz_hnC (zz_nA _ rfl v8) (zz_hn1 (zz_nA _ rfl v8))) hw (fun M20 hw => ?_)
        refine zz_subP [1, 2, 3, 4, 5, 6, 7, 8, 10, 11, 0] rfl ?_
        exact ok_J4_resize_B271 C E hH hR hk151 (fun z0 z1 z2 z3 z4 z5 z6 z7 z8 z9 z10 z11 z12 z13 hw => ih z0 z1 z2 z3 z4 z5 z6 z7 z8 z9 z10 z11 z12 z13 hw) hw
      · refine zz_aload C dJ4_resize_257 7 rfl ?_
        refine zz_astore (lv' := [(9, va_rf v8), (13, va_rf x17), (0, va_rf v0), (1, va_rf v1), (2, .int v2), (4, .int v4), (6, va_rf v6), (7, .int v7), (8, va_rf v8), (10, va_rf v10), (11, va_rf v11), (12, va_rf v12)]) C dJ4_resize_259 (by decide) (by simp [zz_cat, zz_catI, zz_catJ, zz_catD]) ?_
        refine zz_goto (tgt := 271) C dJ4_resize_261 (by decide) ?_
        refine zz_subP [2, 3, 4, 5, 6, 7, 8, 0, 10, 11, 1] rfl ?_
        exact ok_J4_resize_B271 C E hH hR hk151 (fun z0 z1 z2 z3 z4 z5 z6 z7 z8 z9 z10 z11 z12 z13 hw => ih z0 z1 z2 z3 z4 z5 z6 z7 z8 z9 z10 z11 z12 z13 hw) hw
theorem ok_J4_resize_B353 {G : zzX} (C : zz_C G cJ4_resize "java/util/HashMap" 14) {K : Option Value → zzM → Prop} (E : zz_E G (some (.array (.object "java/util/HashMap$Node"))) K (fun _ _ _ => False)) (hH : zz_H G []) (hR : zz_Rm G 1) {v6 : Option Nat} {M : zzM} {bc bs : Nat} (hw : wp_J4_resize_B353 (zz_Zof G) K v6 M bc bs) : zz_T G 14 M bc bs 353 [(6, va_rf v6)] [] := by
  unfold wp_J4_resize_B353 at hw
  refine zz_aload C dJ4_resize_353 0 rfl ?_
  exact zz_aret C E (Or.inr ⟨_, rfl⟩) dJ4_resize_355 hw
theorem ok_J4_resize_L151 {G : zzX} (C : zz_C G cJ4_resize "java/util/HashMap" 14) {K : Option Value → zzM → Prop} (E : zz_E G (some (.array (.object "java/util/HashMap$Node"))) K (fun _ _ _ => False)) (hH : zz_H G []) (hR : zz_Rm G 1) : ∀ (n : Nat) (v0 : Option Nat) (v1 : Option Nat) (v2 : Int32) (v4 : Int32) (v6 : Option Nat) (v7 : Int32) (M : zzM) (bc bs : Nat), wp_J4_resize_L151 (zz_Zof G) K n v0 v1 v2 v4 v6 v7 M bc bs → zz_T G 14 M bc bs 151 [(0, va_rf v0), (1, va_rf v1), (2, .int v2), (4, .int v4), (6, va_rf v6), (7, .int v7)] [] := by
  intro n
  induction n with
  | zero =>
    intro v0 v1 v2 v4 v6 v7 M bc bs hw
    exact False.elim hw
  | succ n ih =>
    intro v0 v1 v2 v4 v6 v7 M bc bs hw
    refine zz_iload C dJ4_resize_151 5 rfl ?_
    refine zz_iload_n C dJ4_resize_153 rfl 2 rfl ?_
    refine zz_icmp_ge (tgt := 353) C dJ4_resize_154 (by decide) hw (fun hw => ?_) (fun hw => ?_)
    · refine zz_subP [4] rfl ?_
      exact ok_J4_resize_B353 C E hH hR hw
    · refine zz_aload_n C dJ4_resize_157 rfl 1 rfl ?_
      refine zz_iload C dJ4_resize_158 5 rfl ?_
      refine zz_aald C dJ4_resize_160 hw (fun x11 hw => ?_)
      refine zz_dup C dJ4_resize_161 (zz_cat _) ?_
      refine zz_astore (lv' := [(8, va_rf x11), (0, va_rf v0), (1, va_rf v1), (2, .int v2), (4, .int v4), (6, va_rf v6), (7, .int v7)]) C dJ4_resize_162 (by decide) rfl ?_
      refine zz_ifnull (tgt := 347) C dJ4_resize_164 (by decide) hw (fun hw => ?_) (fun hw => ?_)
      · refine zz_subP [1, 2, 3, 4, 5, 6] rfl ?_
        exact ok_J4_resize_B347 C E hH hR (fun z0 z1 z2 z3 z4 z5 z6 z7 z8 hw => ih z0 z1 z2 z3 z4 z5 z6 z7 z8 hw) hw
      · refine zz_aload_n C dJ4_resize_167 rfl 2 rfl ?_
        refine zz_iload C dJ4_resize_168 6 rfl ?_
        refine zz_null C dJ4_resize_170 ?_
        refine zz_aast C dJ4_resize_171 hw (fun M12 hw => ?_)
        refine zz_aload C dJ4_resize_172 0 rfl ?_
        refine zz_getA C dJ4_resize_174 (Or.inl q1367) zf_24_25_3_l_HashMap_Node hw (fun x13 hw => ?_)
        refine zz_ifnonnull (tgt := 198) C dJ4_resize_177 (by decide) hw (fun hw => ?_) (fun hw => ?_)
        · refine zz_aload C dJ4_resize_198 0 rfl ?_
          refine zz_inst C dJ4_resize_200 q1334 zc_25_shMap_TreeNode zn_21_24_shMap_TreeNode hw (fun x14 hw => ?_)
          refine zz_if_eq (tgt := 223) C dJ4_resize_203 (by decide) hw (fun hw => ?_) (fun hw => ?_)
          · refine zz_null C dJ4_resize_223 ?_
            refine zz_astore (lv' := [(9, va_rf none), (8, va_rf x11), (0, va_rf v0), (1, va_rf v1), (2, .int v2), (4, .int v4), (6, va_rf v6), (7, .int v7)]) C dJ4_resize_224 (by decide) (by simp [zz_cat, zz_catI, zz_catJ, zz_catD]) ?_
            refine zz_null C dJ4_resize_226 ?_
            refine zz_astore (lv' := [(10, va_rf none), (9, va_rf none), (8, va_rf x11), (0, va_rf v0), (1, va_rf v1), (2, .int v2), (4, .int v4), (6, va_rf v6), (7, .int v7)]) C dJ4_resize_227 (by decide) (by simp [zz_cat, zz_catI, zz_catJ, zz_catD]) ?_
            refine zz_null C dJ4_resize_229 ?_
            refine zz_astore (lv' := [(11, va_rf none), (10, va_rf none), (9, va_rf none), (8, va_rf x11), (0, va_rf v0), (1, va_rf v1), (2, .int v2), (4, .int v4), (6, va_rf v6), (7, .int v7)]) C dJ4_resize_230 (by decide) (by simp [zz_cat, zz_catI, zz_catJ, zz_catD]) ?_
            refine zz_null C dJ4_resize_232 ?_
            refine zz_astore (lv' := [(12, va_rf none), (11, va_rf none), (10, va_rf none), (9, va_rf none), (8, va_rf x11), (0, va_rf v0), (1, va_rf v1), (2, .int v2), (4, .int v4), (6, va_rf v6), (7, .int v7)]) C dJ4_resize_233 (by decide) (by simp [zz_cat, zz_catI, zz_catJ, zz_catD]) ?_
            refine zz_subP [5, 6, 7, 8, 9, 10, 4, 3, 2, 1, 0] rfl ?_
            obtain ⟨n235, hw⟩ := hw
            exact ok_J4_resize_L235 C E hH hR (fun z0 z1 z2 z3 z4 z5 z6 z7 z8 hw => ih z0 z1 z2 z3 z4 z5 z6 z7 z8 hw) n235 _ _ _ _ _ _ _ _ _ _ _ _ _ _ hw
          · refine zz_aload C dJ4_resize_206 0 rfl ?_
            refine zz_cast C dJ4_resize_208 q1334 zc_25_shMap_TreeNode hw (fun hw => ?_)
            refine zz_aload_n C dJ4_resize_211 rfl 1 rfl ?_
            refine zz_aload C dJ4_resize_212 5 rfl ?_
            refine zz_iload C dJ4_resize_214 6 rfl ?_
            refine zz_iload_n C dJ4_resize_216 rfl 3 rfl ?_
            exact hw.elim
        · refine zz_aload C dJ4_resize_180 5 rfl ?_
          refine zz_aload C dJ4_resize_182 0 rfl ?_
          refine zz_getI C dJ4_resize_184 (Or.inl q1356) zf_24_25_0_l_HashMap_Node hw (fun x15 hw => ?_)
          refine zz_iload C dJ4_resize_187 4 rfl ?_
          refine zz_iconst (v := (1 : Int32)) C dJ4_resize_189 (by decide) ?_
          refine zz_isub C dJ4_resize_190 ?_
          refine zz_iand C dJ4_resize_191 ?_
          refine zz_aload C dJ4_resize_192 0 rfl ?_
          refine zz_aast C dJ4_resize_194 hw (fun M16 hw => ?_)
          refine zz_goto (tgt := 347) C dJ4_resize_195 (by decide) ?_
          refine zz_subP [1, 2, 3, 4, 5, 6] rfl ?_
          exact ok_J4_resize_B347 C E hH hR (fun z0 z1 z2 z3 z4 z5 z6 z7 z8 hw => ih z0 z1 z2 z3 z4 z5 z6 z7 z8 hw) hw
theorem ok_J4_resize_B85 {G : zzX} (C : zz_C G cJ4_resize "java/util/HashMap" 14) {K : Option Value → zzM → Prop} (E : zz_E G (some (.array (.object "java/util/HashMap$Node"))) K (fun _ _ _ => False)) (hH : zz_H G []) (hR : zz_Rm G 1) {v0 : Option Nat} {v1 : Option Nat} {v2 : Int32} {v4 : Int32} {v5 : Int32} {M : zzM} {bc bs : Nat} (hw : wp_J4_resize_B85 (zz_Zof G) K v0 v1 v2 v4 v5 M bc bs) : zz_T G 14 M bc bs 85 [(0, va_rf v0), (1, va_rf v1), (2, .int v2), (4, .int v4), (5, .int v5)] [] := by
  unfold wp_J4_resize_B85 at hw
  refine zz_iload C dJ4_resize_85 4 rfl ?_
  refine zz_if_ne (tgt := 125) C dJ4_resize_87 (by decide) hw (fun hw => ?_) (fun hw => ?_)
  · refine zz_aload_n C dJ4_resize_125 rfl 0 rfl ?_
    refine zz_iload C dJ4_resize_126 4 rfl ?_
    refine zz_put C dJ4_resize_128 (Or.inl q212) zf_19_6_a_util_HashMap zp_19_6 (zz_hn1 ⟨rfl, rfl⟩) hw (fun M5 hw => ?_)
    refine zz_iload C dJ4_resize_131 3 rfl ?_
    refine zz_anewar (t := 104) C dJ4_resize_133 rfl q1332 q1333 hw (fun q6 M7 bc8 bs9 hw => ?_)
    refine zz_astore (lv' := [(6, va_rf (some q6)), (0, va_rf v0), (1, va_rf v1), (2, .int v2), (4, .int v4), (5, .int v5)]) C dJ4_resize_136 (by decide) rfl ?_
    refine zz_aload_n C dJ4_resize_138 rfl 1 rfl ?_
    refine zz_aload C dJ4_resize_139 0 rfl ?_
    refine zz_put C dJ4_resize_141 (Or.inl q209) zf_19_2_a_util_HashMap zp_19_2 (zz_hn1 (zz_nA _ rfl (some q6))) hw (fun M10 hw => ?_)
    refine zz_aload_n C dJ4_resize_144 rfl 2 rfl ?_
    refine zz_ifnull (tgt := 353) C dJ4_resize_145 (by decide) hw (fun hw => ?_) (fun hw => ?_)
    · refine zz_subP [0] rfl ?_
      exact ok_J4_resize_B353 C E hH hR hw
    · refine zz_iconst (v := (0 : Int32)) C dJ4_resize_148 (by decide) ?_
      refine zz_istore (lv' := [(7, .int (0 : Int32)), (6, va_rf (some q6)), (0, va_rf v0), (1, va_rf v1), (2, .int v2), (4, .int v4), (5, .int v5)]) C dJ4_resize_149 (by decide) (by simp [zz_cat, zz_catI, zz_catJ, zz_catD]) ?_
      refine zz_subP [2, 3, 4, 5, 1, 0] rfl ?_
      obtain ⟨n151, hw⟩ := hw
      exact ok_J4_resize_L151 C E hH hR n151 _ _ _ _ _ _ _ _ _ hw
  · refine zz_iload C dJ4_resize_90 3 rfl ?_
    exact hw.elim
theorem ok_J4_resize_B15 {G : zzX} (C : zz_C G cJ4_resize "java/util/HashMap" 14) {K : Option Value → zzM → Prop} (E : zz_E G (some (.array (.object "java/util/HashMap$Node"))) K (fun _ _ _ => False)) (hH : zz_H G []) (hR : zz_Rm G 1) {v0 : Option Nat} {v1 : Option Nat} {s0 : Int32} {M : zzM} {bc bs : Nat} (hw : wp_J4_resize_B15 (zz_Zof G) K v0 v1 s0 M bc bs) : zz_T G 14 M bc bs 15 [(0, va_rf v0), (1, va_rf v1)] [.int s0] := by
  unfold wp_J4_resize_B15 at hw
  refine zz_istore_n (i := 2) (lv' := [(2, .int s0), (0, va_rf v0), (1, va_rf v1)]) C dJ4_resize_15 rfl (by decide) (by simp [zz_cat, zz_catI, zz_catJ, zz_catD]) ?_
  refine zz_aload_n C dJ4_resize_16 rfl 1 rfl ?_
  refine zz_getI C dJ4_resize_17 (Or.inl q212) zf_19_6_a_util_HashMap hw (fun x3 hw => ?_)
  refine zz_istore_n (i := 3) (lv' := [(3, .int x3), (2, .int s0), (0, va_rf v0), (1, va_rf v1)]) C dJ4_resize_20 rfl (by decide) rfl ?_
  refine zz_iconst (v := (0 : Int32)) C dJ4_resize_21 (by decide) ?_
  refine zz_istore (lv' := [(5, .int (0 : Int32)), (3, .int x3), (2, .int s0), (0, va_rf v0), (1, va_rf v1)]) C dJ4_resize_22 (by decide) rfl ?_
  refine zz_iload_n C dJ4_resize_24 rfl 2 rfl ?_
  refine zz_if_le (tgt := 67) C dJ4_resize_25 (by decide) hw (fun hw => ?_) (fun hw => ?_)
  · refine zz_iload_n C dJ4_resize_67 rfl 1 rfl ?_
    refine zz_if_le (tgt := 77) C dJ4_resize_68 (by decide) hw (fun hw => ?_) (fun hw => ?_)
    · refine zz_bipush (v := (16 : Int32)) C dJ4_resize_77 (by decide) ?_
      refine zz_istore (lv' := [(4, .int (16 : Int32)), (5, .int (0 : Int32)), (3, .int x3), (2, .int s0), (0, va_rf v0), (1, va_rf v1)]) C dJ4_resize_79 (by decide) rfl ?_
      refine zz_bipush (v := (12 : Int32)) C dJ4_resize_81 (by decide) ?_
      refine zz_istore (lv' := [(5, .int (12 : Int32)), (4, .int (16 : Int32)), (3, .int x3), (2, .int s0), (0, va_rf v0), (1, va_rf v1)]) C dJ4_resize_83 (by decide) rfl ?_
      refine zz_subP [4, 5, 3, 1, 0] rfl ?_
      exact ok_J4_resize_B85 C E hH hR hw
    · refine zz_iload_n C dJ4_resize_71 rfl 1 rfl ?_
      refine zz_istore (lv' := [(4, .int x3), (5, .int (0 : Int32)), (3, .int x3), (2, .int s0), (0, va_rf v0), (1, va_rf v1)]) C dJ4_resize_72 (by decide) rfl ?_
      refine zz_goto (tgt := 85) C dJ4_resize_74 (by decide) ?_
      refine zz_subP [4, 5, 3, 0, 1] rfl ?_
      exact ok_J4_resize_B85 C E hH hR hw
  · refine zz_iload_n C dJ4_resize_28 rfl 2 rfl ?_
    refine zz_ldci C dJ4_resize_29 q1329 ?_
    refine zz_icmp_lt (tgt := 42) C dJ4_resize_31 (by decide) hw (fun hw => ?_) (fun hw => ?_)
    · refine zz_iload_n C dJ4_resize_42 rfl 2 rfl ?_
      refine zz_iconst (v := (1 : Int32)) C dJ4_resize_43 (by decide) ?_
      refine zz_ishl C dJ4_resize_44 ?_
      refine zz_dup C dJ4_resize_45 rfl ?_
      refine zz_istore (lv' := [(4, .int (s0 <<< ((1 : Int32) &&& 31))), (5, .int (0 : Int32)), (3, .int x3), (2, .int s0), (0, va_rf v0), (1, va_rf v1)]) C dJ4_resize_46 (by decide) rfl ?_
      refine zz_ldci C dJ4_resize_48 q1329 ?_
      refine zz_icmp_ge (tgt := 85) C dJ4_resize_50 (by decide) hw (fun hw => ?_) (fun hw => ?_)
      · refine zz_subP [4, 5, 3, 0, 1] rfl ?_
        exact ok_J4_resize_B85 C E hH hR hw
      · refine zz_iload_n C dJ4_resize_53 rfl 3 rfl ?_
        refine zz_bipush (v := (16 : Int32)) C dJ4_resize_54 (by decide) ?_
        refine zz_icmp_lt (tgt := 85) C dJ4_resize_56 (by decide) hw (fun hw => ?_) (fun hw => ?_)
        · refine zz_subP [4, 5, 3, 0, 1] rfl ?_
          exact ok_J4_resize_B85 C E hH hR hw
        · refine zz_iload_n C dJ4_resize_59 rfl 2 rfl ?_
          refine zz_iconst (v := (1 : Int32)) C dJ4_resize_60 (by decide) ?_
          refine zz_ishl C dJ4_resize_61 ?_
          refine zz_istore (lv' := [(5, .int (x3 <<< ((1 : Int32) &&& 31))), (4, .int (s0 <<< ((1 : Int32) &&& 31))), (3, .int x3), (2, .int s0), (0, va_rf v0), (1, va_rf v1)]) C dJ4_resize_62 (by decide) rfl ?_
          refine zz_goto (tgt := 85) C dJ4_resize_64 (by decide) ?_
          refine zz_subP [4, 5, 3, 1, 0] rfl ?_
          exact ok_J4_resize_B85 C E hH hR hw
    · refine zz_aload_n C dJ4_resize_34 rfl 3 rfl ?_
      refine zz_ldci C dJ4_resize_35 q1330 ?_
      refine zz_put C dJ4_resize_37 (Or.inl q212) zf_19_6_a_util_HashMap zp_19_6 (zz_hn1 ⟨rfl, rfl⟩) hw (fun M4 hw => ?_)
      refine zz_aload_n C dJ4_resize_40 rfl 4 rfl ?_
      exact zz_aret C E (Or.inr ⟨_, rfl⟩) dJ4_resize_41 hw
theorem ok_J4_resize {Z : zzG} {l : Launch} (hl : l.stackTraces = false) {this : Option Nat} {M : zzM} {mc ms : Nat} {K : Option Value → zzM → Prop} (hw : wp_J4_resize Z this M mc ms K) : zz_Met Z l yJ4_resize (zz_ws yJ4_resize cJ4_resize 14 (some (.array (.object "java/util/HashMap$Node"))) none) 1 [va_rf this] M mc ms K (fun _ _ _ => False) := by
  refine zz_ofW hl (plainFor_of_name (by decide)) (by simp only [zz_sl0, zz_slI, zz_slJ, zz_slA] <;> decide) (fun G hZ hll C E hH hR hin => ?_)
  subst hZ
  subst hll
  rw [show lv_args 0 [va_rf this] = [(0, va_rf this)] by simp only [zz_la0, zz_laI, zz_laJ, zz_laA]]
  unfold wp_J4_resize at hw
  refine zz_aload_n C dJ4_resize_0 rfl 0 rfl ?_
  refine zz_getA C dJ4_resize_1 (Or.inl q209) zf_19_2_a_util_HashMap hw (fun x1 hw => ?_)
  refine zz_astore_n (i := 1) (lv' := [(1, va_rf x1), (0, va_rf this)]) C dJ4_resize_4 rfl (by decide) (by simp [zz_cat, zz_catI, zz_catJ, zz_catD]) ?_
  refine zz_aload_n C dJ4_resize_5 rfl 0 rfl ?_
  refine zz_ifnonnull (tgt := 13) C dJ4_resize_6 (by decide) hw (fun hw => ?_) (fun hw => ?_)
  · refine zz_aload_n C dJ4_resize_13 rfl 0 rfl ?_
    refine zz_alen C dJ4_resize_14 hw (fun x2 hw => ?_)
    refine zz_subP [1, 0] rfl ?_
    exact ok_J4_resize_B15 C E hH hR hw
  · refine zz_iconst (v := (0 : Int32)) C dJ4_resize_9 (by decide) ?_
    refine zz_goto (tgt := 15) C dJ4_resize_10 (by decide) ?_
    refine zz_subP [1, 0] rfl ?_
    exact ok_J4_resize_B15 C E hH hR hw
abbrev cJ25_init : ByteArray := prog_64_method_1_code
def yJ25_init : MethodName := ⟨"java/util/HashMap$Node", "<init>", "(ILjava/lang/Object;Ljava/lang/Object;Ljava/util/HashMap$Node;)V"⟩
def dkwJ25_init_1 : List UInt8 := [181, 0, 20, 177]
abbrev dktJ25_init_1 : List UInt8 := dkwJ25_init_1 ++ []
def dkwJ25_init_0 : List UInt8 := [42, 183, 0, 1, 42, 27, 181, 0, 7, 42, 44, 181, 0, 13, 42, 45, 181, 0, 17, 42, 25, 4]
abbrev dktJ25_init_0 : List UInt8 := dkwJ25_init_0 ++ dktJ25_init_1
theorem dksJ25_init_0 : cJ25_init.data.toList.drop 0 = dktJ25_init_0 := by decide +kernel
theorem dksJ25_init_1 : cJ25_init.data.toList.drop 22 = dktJ25_init_1 := dk_seg dksJ25_init_0 22 rfl rfl
theorem dJ25_init_0 : decode cJ25_init 0 = .ok (.aload_n 0, 1) := dk_42 (dk_at dksJ25_init_0 0 rfl rfl)
theorem dJ25_init_1 : decode cJ25_init 1 = .ok (.invokespecial 1, 3) := dk_183 0 1 (dk_at dksJ25_init_0 1 rfl rfl)
theorem dJ25_init_4 : decode cJ25_init 4 = .ok (.aload_n 0, 1) := dk_42 (dk_at dksJ25_init_0 4 rfl rfl)
theorem dJ25_init_5 : decode cJ25_init 5 = .ok (.iload_n 1, 1) := dk_27 (dk_at dksJ25_init_0 5 rfl rfl)
theorem dJ25_init_6 : decode cJ25_init 6 = .ok (.putfield 7, 3) := dk_181 0 7 (dk_at dksJ25_init_0 6 rfl rfl)
theorem dJ25_init_9 : decode cJ25_init 9 = .ok (.aload_n 0, 1) := dk_42 (dk_at dksJ25_init_0 9 rfl rfl)
theorem dJ25_init_10 : decode cJ25_init 10 = .ok (.aload_n 2, 1) := dk_44 (dk_at dksJ25_init_0 10 rfl rfl)
theorem dJ25_init_11 : decode cJ25_init 11 = .ok (.putfield 13, 3) := dk_181 0 13 (dk_at dksJ25_init_0 11 rfl rfl)
theorem dJ25_init_14 : decode cJ25_init 14 = .ok (.aload_n 0, 1) := dk_42 (dk_at dksJ25_init_0 14 rfl rfl)
theorem dJ25_init_15 : decode cJ25_init 15 = .ok (.aload_n 3, 1) := dk_45 (dk_at dksJ25_init_0 15 rfl rfl)
theorem dJ25_init_16 : decode cJ25_init 16 = .ok (.putfield 17, 3) := dk_181 0 17 (dk_at dksJ25_init_0 16 rfl rfl)
theorem dJ25_init_19 : decode cJ25_init 19 = .ok (.aload_n 0, 1) := dk_42 (dk_at dksJ25_init_0 19 rfl rfl)
theorem dJ25_init_20 : decode cJ25_init 20 = .ok (.aload 4, 2) := dk_25 4 (dk_at dksJ25_init_0 20 rfl rfl)
theorem dJ25_init_22 : decode cJ25_init 22 = .ok (.putfield 20, 3) := dk_181 0 20 (dk_at dksJ25_init_1 0 rfl rfl)
theorem dJ25_init_25 : decode cJ25_init 25 = .ok (.return_, 1) := dk_177 (dk_at dksJ25_init_1 3 rfl rfl)
theorem q1352 : (Jvm.Cond.methodLink "java/util/HashMap$Node" (1 : Nat) ({ cls := "java/lang/Object", name := "<init>", desc := "()V" } : Jvm.MethodName)) ∈ lw_all := lw_g (lw_at lw_m6 72 rfl) rfl
theorem q1353 : (Jvm.Cond.fieldLink "java/util/HashMap$Node" (7 : Nat) "java/util/HashMap$Node" "hash" "I") ∈ lw_all := lw_g (lw_at lw_m6 73 rfl) rfl
theorem zq_24_25_0 : zz_pokF [24, 25] 0 "java/util/HashMap$Node" := zz_pokFC (zz_pokF1 (zR_24, zT_24, 4) (by decide) rfl rfl rfl) (zz_pokF1 (zR_25, zT_25, 11) (by decide) rfl rfl rfl)
theorem zf_24_25_1_l_HashMap_Node : zz_fok [24, 25] 1 "java/util/HashMap$Node" "key" "Ljava/lang/Object;" := zz_fokC (zz_fok1 (zR_24, zT_24, 4) rfl (by decide) rfl rfl (Or.inl rfl)) (zz_fok1 (zR_25, zT_25, 11) rfl (by decide) rfl rfl (Or.inl rfl))
theorem q1357 : (Jvm.Cond.fieldLink "java/util/HashMap$Node" (13 : Nat) "java/util/HashMap$Node" "key" "Ljava/lang/Object;") ∈ lw_all := lw_g (lw_at lw_m6 77 rfl) rfl
theorem zq_24_25_1 : zz_pokF [24, 25] 1 "java/util/HashMap$Node" := zz_pokFC (zz_pokF1 (zR_24, zT_24, 4) (by decide) rfl rfl rfl) (zz_pokF1 (zR_25, zT_25, 11) (by decide) rfl rfl rfl)
theorem zf_24_25_2_l_HashMap_Node : zz_fok [24, 25] 2 "java/util/HashMap$Node" "value" "Ljava/lang/Object;" := zz_fokC (zz_fok1 (zR_24, zT_24, 4) rfl (by decide) rfl rfl (Or.inl rfl)) (zz_fok1 (zR_25, zT_25, 11) rfl (by decide) rfl rfl (Or.inl rfl))
theorem q1361 : (Jvm.Cond.fieldLink "java/util/HashMap$Node" (17 : Nat) "java/util/HashMap$Node" "value" "Ljava/lang/Object;") ∈ lw_all := lw_g (lw_at lw_m6 81 rfl) rfl
theorem zp_24_25_2 : zz_pok [24, 25] 2 := zz_pokC (zz_pok1 (zR_24, zT_24, 4) (by decide) rfl rfl) (zz_pok1 (zR_25, zT_25, 11) (by decide) rfl rfl)
theorem q1363 : (Jvm.Cond.fieldLink "java/util/HashMap$Node" (20 : Nat) "java/util/HashMap$Node" "next" "Ljava/util/HashMap$Node;") ∈ lw_all := lw_g (lw_at lw_m6 83 rfl) rfl
def wp_J25_init (Z : zzG) (this : Option Nat) (p0 : Int32) (p1 : Option Nat) (p2 : Option Nat) (p3 : Option Nat) (M : zzM) (K : Option Value → zzM → Prop) : Prop := zty Z M this fun _ => zput Z M this [24, 25] 0 (.int p0) fun M1 => zput Z M1 this [24, 25] 1 (va_rf p1) fun M2 => zput Z M2 this [24, 25] 2 (va_rf p2) fun M3 => zput Z M3 this [24, 25] 3 (va_rf p3) fun M4 => K none M4
theorem ok_J25_init {Z : zzG} {l : Launch} (hl : l.stackTraces = false) {this : Option Nat} {p0 : Int32} {p1 : Option Nat} {p2 : Option Nat} {p3 : Option Nat} {M : zzM} {mc ms : Nat} {K : Option Value → zzM → Prop} (hw : wp_J25_init Z this p0 p1 p2 p3 M K) : zz_Met Z l yJ25_init (zz_ws yJ25_init cJ25_init 5 none none) 2 [va_rf this, .int p0, va_rf p1, va_rf p2, va_rf p3] M mc ms K (fun _ _ _ => False) := by
  refine zz_ofW hl (plainFor_of_name (by decide)) (by simp only [zz_sl0, zz_slI, zz_slJ, zz_slA] <;> decide) (fun G hZ hll C E hH hR hin => ?_)
  subst hZ
  subst hll
  rw [show lv_args 0 [va_rf this, .int p0, va_rf p1, va_rf p2, va_rf p3] = [(0, va_rf this), (1, .int p0), (2, va_rf p1), (3, va_rf p2), (4, va_rf p3)] by simp only [zz_la0, zz_laI, zz_laJ, zz_laA]]
  unfold wp_J25_init at hw
  refine zz_aload_n C dJ25_init_0 rfl 0 rfl ?_
  obtain ⟨a9, t9, b9, fs9, hro, hL, hw⟩ := ztyS hw
  refine zz_objInit9 C hR (by decide) hro dJ25_init_1 q1352 q146 q147 (zz_cat10 _ (Nat.le_of_ble_eq_true rfl)) ?_
  refine zz_aload_n C dJ25_init_4 rfl 0 rfl ?_
  refine zz_iload_n C dJ25_init_5 rfl 1 rfl ?_
  refine zz_putF C hin dJ25_init_6 q1353 zf_24_25_0_l_HashMap_Node zq_24_25_0 (zz_hnC ⟨rfl, rfl⟩ (zz_hn1 ⟨rfl, rfl⟩)) hw (fun M1 hw => ?_)
  refine zz_aload_n C dJ25_init_9 rfl 0 rfl ?_
  refine zz_aload_n C dJ25_init_10 rfl 2 rfl ?_
  refine zz_putF C hin dJ25_init_11 q1357 zf_24_25_1_l_HashMap_Node zq_24_25_1 (zz_hnC (zz_nA _ rfl p1) (zz_hn1 (zz_nA _ rfl p1))) hw (fun M2 hw => ?_)
  refine zz_aload_n C dJ25_init_14 rfl 0 rfl ?_
  refine zz_aload_n C dJ25_init_15 rfl 3 rfl ?_
  refine zz_put C dJ25_init_16 (Or.inl q1361) zf_24_25_2_l_HashMap_Node zp_24_25_2 (zz_hnC (zz_nA _ rfl p2) (zz_hn1 (zz_nA _ rfl p2))) hw (fun M3 hw => ?_)
  refine zz_aload_n C dJ25_init_19 rfl 0 rfl ?_
  refine zz_aload C dJ25_init_20 4 rfl ?_
  refine zz_put C dJ25_init_22 (Or.inl q1363) zf_24_25_3_l_HashMap_Node zp_24_25_3 (zz_hnC (zz_nA _ rfl p3) (zz_hn1 (zz_nA _ rfl p3))) hw (fun M4 hw => ?_)
  exact zz_vret C E dJ25_init_25 hw
abbrev cJ4_newNode : ByteArray := prog_63_method_46_code
def yJ4_newNode : MethodName := ⟨"java/util/HashMap", "newNode", "(ILjava/lang/Object;Ljava/lang/Object;Ljava/util/HashMap$Node;)Ljava/util/HashMap$Node;"⟩
def dkwJ4_newNode_0 : List UInt8 := [187, 0, 163, 89, 27, 44, 45, 25, 4, 183, 1, 119, 176]
abbrev dktJ4_newNode_0 : List UInt8 := dkwJ4_newNode_0 ++ []
theorem dksJ4_newNode_0 : cJ4_newNode.data.toList.drop 0 = dktJ4_newNode_0 := by decide +kernel
theorem dJ4_newNode_0 : decode cJ4_newNode 0 = .ok (.new 163, 3) := dk_187 0 163 (dk_at dksJ4_newNode_0 0 rfl rfl)
theorem dJ4_newNode_3 : decode cJ4_newNode 3 = .ok (.dup, 1) := dk_89 (dk_at dksJ4_newNode_0 3 rfl rfl)
theorem dJ4_newNode_4 : decode cJ4_newNode 4 = .ok (.iload_n 1, 1) := dk_27 (dk_at dksJ4_newNode_0 4 rfl rfl)
theorem dJ4_newNode_5 : decode cJ4_newNode 5 = .ok (.aload_n 2, 1) := dk_44 (dk_at dksJ4_newNode_0 5 rfl rfl)
theorem dJ4_newNode_6 : decode cJ4_newNode 6 = .ok (.aload_n 3, 1) := dk_45 (dk_at dksJ4_newNode_0 6 rfl rfl)
theorem dJ4_newNode_7 : decode cJ4_newNode 7 = .ok (.aload 4, 2) := dk_25 4 (dk_at dksJ4_newNode_0 7 rfl rfl)
theorem dJ4_newNode_9 : decode cJ4_newNode 9 = .ok (.invokespecial 375, 3) := dk_183 1 119 (dk_at dksJ4_newNode_0 9 rfl rfl)
theorem dJ4_newNode_12 : decode cJ4_newNode 12 = .ok (.areturn, 1) := dk_176 (dk_at dksJ4_newNode_0 12 rfl rfl)
theorem q129 : (Jvm.Cond.initialized "java/util/HashMap$Node") ∈ lw_all := lw_g (lw_at lw_m1 49 rfl) rfl
theorem zl_java_util_HashMap_Node : Cond.initialized "java/util/HashMap$Node" ∈ lw_all := q129
theorem q1351 : (Jvm.Cond.code ({ cls := "java/util/HashMap$Node", name := "<init>", desc := "(ILjava/lang/Object;Ljava/lang/Object;Ljava/util/HashMap$Node;)V" } : Jvm.MethodName) prog_64_method_1_code (5 : Nat) (Option.none : Option Jvm.ClassFile.FieldType)) ∈ lw_all := lw_g (lw_at lw_m6 71 rfl) rfl
theorem zk_J25_init : zz_cd yJ25_init cJ25_init 5 none none ∈ lw_all := q1351
theorem zy_J25_init : zz_yok yJ25_init 4 = true := by decide +kernel
theorem q1349 : (Jvm.Cond.methodLink "java/util/HashMap" (375 : Nat) ({ cls := "java/util/HashMap$Node", name := "<init>", desc := "(ILjava/lang/Object;Ljava/lang/Object;Ljava/util/HashMap$Node;)V" } : Jvm.MethodName)) ∈ lw_all := lw_g (lw_at lw_m6 69 rfl) rfl
theorem q1350 : (Jvm.Cond.instanceMethod ({ cls := "java/util/HashMap$Node", name := "<init>", desc := "(ILjava/lang/Object;Ljava/lang/Object;Ljava/util/HashMap$Node;)V" } : Jvm.MethodName)) ∈ lw_all := lw_g (lw_at lw_m6 70 rfl) rfl
def wp_J4_newNode (Z : zzG) (this : Option Nat) (p0 : Int32) (p1 : Option Nat) (p2 : Option Nat) (p3 : Option Nat) (M : zzM) (bc bs : Nat) (K : Option Value → zzM → Prop) : Prop := znew Z M bc bs 24 4 [.int 0, .null, .null, .null] fun q1 M2 bc3 bs4 => wp_J25_init Z (some q1) p0 p1 p2 p3 M2 (fun r5 M6 => zrV r5 (K (some (va_rf (some q1))) M6))
theorem ok_J4_newNode {Z : zzG} {l : Launch} (hl : l.stackTraces = false) {this : Option Nat} {p0 : Int32} {p1 : Option Nat} {p2 : Option Nat} {p3 : Option Nat} {M : zzM} {mc ms : Nat} {K : Option Value → zzM → Prop} (hw : wp_J4_newNode Z this p0 p1 p2 p3 M mc ms K) : zz_Met Z l yJ4_newNode (zz_ws yJ4_newNode cJ4_newNode 5 (some (.object "java/util/HashMap$Node")) none) 3 [va_rf this, .int p0, va_rf p1, va_rf p2, va_rf p3] M mc ms K (fun _ _ _ => False) := by
  refine zz_ofW hl (plainFor_of_name (by decide)) (by simp only [zz_sl0, zz_slI, zz_slJ, zz_slA] <;> decide) (fun G hZ hll C E hH hR hin => ?_)
  subst hZ
  subst hll
  rw [show lv_args 0 [va_rf this, .int p0, va_rf p1, va_rf p2, va_rf p3] = [(0, va_rf this), (1, .int p0), (2, va_rf p1), (3, va_rf p2), (4, va_rf p3)] by simp only [zz_la0, zz_laI, zz_laJ, zz_laA]]
  unfold wp_J4_newNode at hw
  refine zz_new (r := (zR_24, zT_24, 4)) C dJ4_newNode_0 rfl (by decide) q1332 q1348 zl_java_util_HashMap_Node rfl hw (fun q1 M2 bc3 bs4 hw => ?_)
  refine zz_dup C dJ4_newNode_3 (zz_cat _) ?_
  refine zz_iload_n C dJ4_newNode_4 rfl 1 rfl ?_
  refine zz_aload_n C dJ4_newNode_5 rfl 2 rfl ?_
  refine zz_aload_n C dJ4_newNode_6 rfl 3 rfl ?_
  refine zz_aload C dJ4_newNode_7 4 rfl ?_
  refine zz_callI (As := [.int p0, va_rf p1, va_rf p2, va_rf p3]) (rest := [va_rf (some q1)]) (mc := 0) (ms := 0) C hR rfl dJ4_newNode_9 (Or.inl q1349) q1350 zl_java_util_HashMap_Node zk_J25_init rfl zy_J25_init (by decide) (by decide) (ok_J25_init (zz_hl C) hw) (Nat.zero_le _) (Nat.zero_le _) (zz_cat10 _ (Nat.le_of_ble_eq_true rfl)) (fun r5 M6 hw => zz_kV hw (fun hw => ?_)) (fun _ _ _ h9 => h9.elim) rfl
  exact zz_aret C E (Or.inl ⟨_, rfl⟩) dJ4_newNode_12 hw
abbrev cJ4_afterNodeInsertion : ByteArray := prog_63_method_52_code
def yJ4_afterNodeInsertion : MethodName := ⟨"java/util/HashMap", "afterNodeInsertion", "(Z)V"⟩
theorem dJ4_afterNodeInsertion_0 : decode cJ4_afterNodeInsertion 0 = .ok (.return_, 1) := by decide +kernel
def wp_J4_afterNodeInsertion (Z : zzG) (this : Option Nat) (p0 : Int32) (M : zzM) (K : Option Value → zzM → Prop) : Prop := K none M
theorem ok_J4_afterNodeInsertion {Z : zzG} {l : Launch} (hl : l.stackTraces = false) {this : Option Nat} {p0 : Int32} {M : zzM} {mc ms : Nat} {K : Option Value → zzM → Prop} (hw : wp_J4_afterNodeInsertion Z this p0 M K) : zz_Met Z l yJ4_afterNodeInsertion (zz_ws yJ4_afterNodeInsertion cJ4_afterNodeInsertion 2 none none) 1 [va_rf this, .int p0] M mc ms K (fun _ _ _ => False) := by
  refine zz_ofW hl (plainFor_of_name (by decide)) (by simp only [zz_sl0, zz_slI, zz_slJ, zz_slA] <;> decide) (fun G hZ hll C E hH hR hin => ?_)
  subst hZ
  subst hll
  rw [show lv_args 0 [va_rf this, .int p0] = [(0, va_rf this), (1, .int p0)] by simp only [zz_la0, zz_laI, zz_laJ, zz_laA]]
  unfold wp_J4_afterNodeInsertion at hw
  exact zz_vret C E dJ4_afterNodeInsertion_0 hw
abbrev cJ4_afterNodeAccess : ByteArray := prog_63_method_51_code
def yJ4_afterNodeAccess : MethodName := ⟨"java/util/HashMap", "afterNodeAccess", "(Ljava/util/HashMap$Node;)V"⟩
theorem dJ4_afterNodeAccess_0 : decode cJ4_afterNodeAccess 0 = .ok (.return_, 1) := by decide +kernel
def wp_J4_afterNodeAccess (Z : zzG) (this : Option Nat) (p0 : Option Nat) (M : zzM) (K : Option Value → zzM → Prop) : Prop := K none M
theorem ok_J4_afterNodeAccess {Z : zzG} {l : Launch} (hl : l.stackTraces = false) {this : Option Nat} {p0 : Option Nat} {M : zzM} {mc ms : Nat} {K : Option Value → zzM → Prop} (hw : wp_J4_afterNodeAccess Z this p0 M K) : zz_Met Z l yJ4_afterNodeAccess (zz_ws yJ4_afterNodeAccess cJ4_afterNodeAccess 2 none none) 1 [va_rf this, va_rf p0] M mc ms K (fun _ _ _ => False) := by
  refine zz_ofW hl (plainFor_of_name (by decide)) (by simp only [zz_sl0, zz_slI, zz_slJ, zz_slA] <;> decide) (fun G hZ hll C E hH hR hin => ?_)
  subst hZ
  subst hll
  rw [show lv_args 0 [va_rf this, va_rf p0] = [(0, va_rf this), (1, va_rf p0)] by simp only [zz_la0, zz_laI, zz_laJ, zz_laA]]
  unfold wp_J4_afterNodeAccess at hw
  exact zz_vret C E dJ4_afterNodeAccess_0 hw
abbrev cJ29_root : ByteArray := prog_65_method_2_code
def yJ29_root : MethodName := ⟨"java/util/HashMap$TreeNode", "root", "()Ljava/util/HashMap$TreeNode;"⟩
def dkwJ29_root_0 : List UInt8 := [42, 76, 43, 180, 0, 9, 89, 77, 199, 0, 5, 43, 176, 44, 76, 167, 255, 243]
abbrev dktJ29_root_0 : List UInt8 := dkwJ29_root_0 ++ []
theorem dksJ29_root_0 : cJ29_root.data.toList.drop 0 = dktJ29_root_0 := by decide +kernel
theorem dJ29_root_0 : decode cJ29_root 0 = .ok (.aload_n 0, 1) := dk_42 (dk_at dksJ29_root_0 0 rfl rfl)
theorem dJ29_root_1 : decode cJ29_root 1 = .ok (.astore_n 1, 1) := dk_76 (dk_at dksJ29_root_0 1 rfl rfl)
theorem dJ29_root_2 : decode cJ29_root 2 = .ok (.aload_n 1, 1) := dk_43 (dk_at dksJ29_root_0 2 rfl rfl)
theorem dJ29_root_3 : decode cJ29_root 3 = .ok (.getfield 9, 3) := dk_180 0 9 (dk_at dksJ29_root_0 3 rfl rfl)
theorem dJ29_root_6 : decode cJ29_root 6 = .ok (.dup, 1) := dk_89 (dk_at dksJ29_root_0 6 rfl rfl)
theorem dJ29_root_7 : decode cJ29_root 7 = .ok (.astore_n 2, 1) := dk_77 (dk_at dksJ29_root_0 7 rfl rfl)
theorem dJ29_root_8 : decode cJ29_root 8 = .ok (.ifnonnull 5, 3) := dk_199 0 5 (dk_at dksJ29_root_0 8 rfl rfl)
theorem dJ29_root_11 : decode cJ29_root 11 = .ok (.aload_n 1, 1) := dk_43 (dk_at dksJ29_root_0 11 rfl rfl)
theorem dJ29_root_12 : decode cJ29_root 12 = .ok (.areturn, 1) := dk_176 (dk_at dksJ29_root_0 12 rfl rfl)
theorem dJ29_root_13 : decode cJ29_root 13 = .ok (.aload_n 2, 1) := dk_44 (dk_at dksJ29_root_0 13 rfl rfl)
theorem dJ29_root_14 : decode cJ29_root 14 = .ok (.astore_n 1, 1) := dk_76 (dk_at dksJ29_root_0 14 rfl rfl)
theorem dJ29_root_15 : decode cJ29_root 15 = .ok (.goto (-13), 3) := dk_167 255 243 (dk_at dksJ29_root_0 15 rfl rfl)
theorem zf_25_4_shMap_TreeNode : zz_fok [25] 4 "java/util/HashMap$TreeNode" "parent" "Ljava/util/HashMap$TreeNode;" := zz_fok1 (zR_25, zT_25, 11) rfl (by decide) rfl rfl (Or.inl rfl)
theorem q1685 : (Jvm.Cond.fieldLink "java/util/HashMap$TreeNode" (9 : Nat) "java/util/HashMap$TreeNode" "parent" "Ljava/util/HashMap$TreeNode;") ∈ lw_all := lw_g (lw_at lw_m7 165 rfl) rfl
def wp_J29_root_L2 (Z : zzG) (K : Option Value → zzM → Prop) : Nat → Option Nat → zzM → Prop
  | 0, _, _ => False
  | n + 1, v1, M => zgA Z M v1 [25] 4 fun x1 => if x1 = none then (K (some (va_rf v1)) M) else (wp_J29_root_L2 Z K n x1 M)
def wp_J29_root (Z : zzG) (this : Option Nat) (M : zzM) (K : Option Value → zzM → Prop) : Prop := ∃ n2 : Nat, wp_J29_root_L2 Z K n2 this M
theorem ok_J29_root_L2 {G : zzX} (C : zz_C G cJ29_root "java/util/HashMap$TreeNode" 3) {K : Option Value → zzM → Prop} (E : zz_E G (some (.object "java/util/HashMap$TreeNode")) K (fun _ _ _ => False)) (hH : zz_H G []) (hR : zz_Rm G 1) : ∀ (n : Nat) (v1 : Option Nat) (M : zzM) (bc bs : Nat), wp_J29_root_L2 (zz_Zof G) K n v1 M → zz_T G 3 M bc bs 2 [(1, va_rf v1)] [] := by
  intro n
  induction n with
  | zero =>
    intro v1 M bc bs hw
    exact False.elim hw
  | succ n ih =>
    intro v1 M bc bs hw
    refine zz_aload_n C dJ29_root_2 rfl 0 rfl ?_
    refine zz_getA C dJ29_root_3 (Or.inl q1685) zf_25_4_shMap_TreeNode hw (fun x1 hw => ?_)
    refine zz_dup C dJ29_root_6 (zz_cat _) ?_
    refine zz_astore_n (i := 2) (lv' := [(2, va_rf x1), (1, va_rf v1)]) C dJ29_root_7 rfl (by decide) (by simp [zz_cat, zz_catI, zz_catJ, zz_catD]) ?_
    refine zz_ifnonnull (tgt := 13) C dJ29_root_8 (by decide) hw (fun hw => ?_) (fun hw => ?_)
    · refine zz_aload_n C dJ29_root_13 rfl 0 rfl ?_
      refine zz_astore_n (i := 1) (lv' := [(1, va_rf x1), (2, va_rf x1)]) C dJ29_root_14 rfl (by decide) rfl ?_
      refine zz_goto (tgt := 2) C dJ29_root_15 (by decide) ?_
      refine zz_subP [0] rfl ?_
      exact ih _ _ _ _ hw
    · refine zz_aload_n C dJ29_root_11 rfl 1 rfl ?_
      exact zz_aret C E (Or.inl ⟨_, rfl⟩) dJ29_root_12 hw
theorem ok_J29_root {Z : zzG} {l : Launch} (hl : l.stackTraces = false) {this : Option Nat} {M : zzM} {mc ms : Nat} {K : Option Value → zzM → Prop} (hw : wp_J29_root Z this M K) : zz_Met Z l yJ29_root (zz_ws yJ29_root cJ29_root 3 (some (.object "java/util/HashMap$TreeNode")) none) 1 [va_rf this] M mc ms K (fun _ _ _ => False) := by
  refine zz_ofW hl (plainFor_of_name (by decide)) (by simp only [zz_sl0, zz_slI, zz_slJ, zz_slA] <;> decide) (fun G hZ hll C E hH hR hin => ?_)
  subst hZ
  subst hll
  rw [show lv_args 0 [va_rf this] = [(0, va_rf this)] by simp only [zz_la0, zz_laI, zz_laJ, zz_laA]]
  unfold wp_J29_root at hw
  refine zz_aload_n C dJ29_root_0 rfl 0 rfl ?_
  refine zz_astore_n (i := 1) (lv' := [(1, va_rf this), (0, va_rf this)]) C dJ29_root_1 rfl (by decide) (by simp [zz_cat, zz_catI, zz_catJ, zz_catD]) ?_
  refine zz_subP [0] rfl ?_
  obtain ⟨n2, hw⟩ := hw
  exact ok_J29_root_L2 C E hH hR n2 _ _ _ _ hw
abbrev cJ28_init : ByteArray := prog_67_method_1_code
def yJ28_init : MethodName := ⟨"java/util/LinkedHashMap$Entry", "<init>", "(ILjava/lang/Object;Ljava/lang/Object;Ljava/util/HashMap$Node;)V"⟩
def dkwJ28_init_0 : List UInt8 := [42, 27, 44, 45, 25, 4, 183, 0, 1, 177]
abbrev dktJ28_init_0 : List UInt8 := dkwJ28_init_0 ++ []
theorem dksJ28_init_0 : cJ28_init.data.toList.drop 0 = dktJ28_init_0 := by decide +kernel
theorem dJ28_init_0 : decode cJ28_init 0 = .ok (.aload_n 0, 1) := dk_42 (dk_at dksJ28_init_0 0 rfl rfl)
theorem dJ28_init_1 : decode cJ28_init 1 = .ok (.iload_n 1, 1) := dk_27 (dk_at dksJ28_init_0 1 rfl rfl)
theorem dJ28_init_2 : decode cJ28_init 2 = .ok (.aload_n 2, 1) := dk_44 (dk_at dksJ28_init_0 2 rfl rfl)
theorem dJ28_init_3 : decode cJ28_init 3 = .ok (.aload_n 3, 1) := dk_45 (dk_at dksJ28_init_0 3 rfl rfl)
theorem dJ28_init_4 : decode cJ28_init 4 = .ok (.aload 4, 2) := dk_25 4 (dk_at dksJ28_init_0 4 rfl rfl)
theorem dJ28_init_6 : decode cJ28_init 6 = .ok (.invokespecial 1, 3) := dk_183 0 1 (dk_at dksJ28_init_0 6 rfl rfl)
theorem dJ28_init_9 : decode cJ28_init 9 = .ok (.return_, 1) := dk_177 (dk_at dksJ28_init_0 9 rfl rfl)
theorem q1684 : (Jvm.Cond.methodLink "java/util/LinkedHashMap$Entry" (1 : Nat) ({ cls := "java/util/HashMap$Node", name := "<init>", desc := "(ILjava/lang/Object;Ljava/lang/Object;Ljava/util/HashMap$Node;)V" } : Jvm.MethodName)) ∈ lw_all := lw_g (lw_at lw_m7 164 rfl) rfl
def wp_J28_init (Z : zzG) (this : Option Nat) (p0 : Int32) (p1 : Option Nat) (p2 : Option Nat) (p3 : Option Nat) (M : zzM) (K : Option Value → zzM → Prop) : Prop := zty Z M this fun _ => wp_J25_init Z this p0 p1 p2 p3 M (fun r1 M2 => zrV r1 (K none M2))
theorem ok_J28_init {Z : zzG} {l : Launch} (hl : l.stackTraces = false) {this : Option Nat} {p0 : Int32} {p1 : Option Nat} {p2 : Option Nat} {p3 : Option Nat} {M : zzM} {mc ms : Nat} {K : Option Value → zzM → Prop} (hw : wp_J28_init Z this p0 p1 p2 p3 M K) : zz_Met Z l yJ28_init (zz_ws yJ28_init cJ28_init 5 none none) 3 [va_rf this, .int p0, va_rf p1, va_rf p2, va_rf p3] M mc ms K (fun _ _ _ => False) := by
  refine zz_ofW hl (plainFor_of_name (by decide)) (by simp only [zz_sl0, zz_slI, zz_slJ, zz_slA] <;> decide) (fun G hZ hll C E hH hR hin => ?_)
  subst hZ
  subst hll
  rw [show lv_args 0 [va_rf this, .int p0, va_rf p1, va_rf p2, va_rf p3] = [(0, va_rf this), (1, .int p0), (2, va_rf p1), (3, va_rf p2), (4, va_rf p3)] by simp only [zz_la0, zz_laI, zz_laJ, zz_laA]]
  unfold wp_J28_init at hw
  refine zz_aload_n C dJ28_init_0 rfl 0 rfl ?_
  refine zz_iload_n C dJ28_init_1 rfl 1 rfl ?_
  refine zz_aload_n C dJ28_init_2 rfl 2 rfl ?_
  refine zz_aload_n C dJ28_init_3 rfl 3 rfl ?_
  refine zz_aload C dJ28_init_4 4 rfl ?_
  obtain ⟨a9, t9, b9, fs9, hro, hL, hw⟩ := ztyS hw
  refine zz_callI (As := [.int p0, va_rf p1, va_rf p2, va_rf p3]) (rest := []) (mc := 0) (ms := 0) C hR hro dJ28_init_6 (Or.inl q1684) q1350 zl_java_util_HashMap_Node zk_J25_init rfl zy_J25_init (by decide) (by decide) (ok_J25_init (zz_hl C) hw) (Nat.zero_le _) (Nat.zero_le _) (zz_cat10 _ (Nat.le_of_ble_eq_true rfl)) (fun r1 M2 hw => zz_kV hw (fun hw => ?_)) (fun _ _ _ h9 => h9.elim) rfl
  exact zz_vret C E dJ28_init_9 hw
abbrev cJ29_init : ByteArray := prog_65_method_1_code
def yJ29_init : MethodName := ⟨"java/util/HashMap$TreeNode", "<init>", "(ILjava/lang/Object;Ljava/lang/Object;Ljava/util/HashMap$Node;)V"⟩
def dkwJ29_init_0 : List UInt8 := [42, 27, 44, 45, 25, 4, 183, 0, 3, 177]
abbrev dktJ29_init_0 : List UInt8 := dkwJ29_init_0 ++ []
theorem dksJ29_init_0 : cJ29_init.data.toList.drop 0 = dktJ29_init_0 := by decide +kernel
theorem dJ29_init_0 : decode cJ29_init 0 = .ok (.aload_n 0, 1) := dk_42 (dk_at dksJ29_init_0 0 rfl rfl)
theorem dJ29_init_1 : decode cJ29_init 1 = .ok (.iload_n 1, 1) := dk_27 (dk_at dksJ29_init_0 1 rfl rfl)
theorem dJ29_init_2 : decode cJ29_init 2 = .ok (.aload_n 2, 1) := dk_44 (dk_at dksJ29_init_0 2 rfl rfl)
theorem dJ29_init_3 : decode cJ29_init 3 = .ok (.aload_n 3, 1) := dk_45 (dk_at dksJ29_init_0 3 rfl rfl)
theorem dJ29_init_4 : decode cJ29_init 4 = .ok (.aload 4, 2) := dk_25 4 (dk_at dksJ29_init_0 4 rfl rfl)
theorem dJ29_init_6 : decode cJ29_init 6 = .ok (.invokespecial 3, 3) := dk_183 0 3 (dk_at dksJ29_init_0 6 rfl rfl)
theorem dJ29_init_9 : decode cJ29_init 9 = .ok (.return_, 1) := dk_177 (dk_at dksJ29_init_0 9 rfl rfl)
theorem q1683 : (Jvm.Cond.code ({ cls := "java/util/LinkedHashMap$Entry", name := "<init>", desc := "(ILjava/lang/Object;Ljava/lang/Object;Ljava/util/HashMap$Node;)V" } : Jvm.MethodName) prog_67_method_1_code (5 : Nat) (Option.none : Option Jvm.ClassFile.FieldType)) ∈ lw_all := lw_g (lw_at lw_m7 163 rfl) rfl
theorem zk_J28_init : zz_cd yJ28_init cJ28_init 5 none none ∈ lw_all := q1683
theorem zy_J28_init : zz_yok yJ28_init 4 = true := by decide +kernel
theorem q1681 : (Jvm.Cond.methodLink "java/util/HashMap$TreeNode" (3 : Nat) ({ cls := "java/util/LinkedHashMap$Entry", name := "<init>", desc := "(ILjava/lang/Object;Ljava/lang/Object;Ljava/util/HashMap$Node;)V" } : Jvm.MethodName)) ∈ lw_all := lw_g (lw_at lw_m7 161 rfl) rfl
theorem q133 : (Jvm.Cond.initialized "java/util/LinkedHashMap$Entry") ∈ lw_all := lw_g (lw_at lw_m1 53 rfl) rfl
theorem zl_java_util_LinkedHashMap_Entry : Cond.initialized "java/util/LinkedHashMap$Entry" ∈ lw_all := q133
theorem q1682 : (Jvm.Cond.instanceMethod ({ cls := "java/util/LinkedHashMap$Entry", name := "<init>", desc := "(ILjava/lang/Object;Ljava/lang/Object;Ljava/util/HashMap$Node;)V" } : Jvm.MethodName)) ∈ lw_all := lw_g (lw_at lw_m7 162 rfl) rfl
def wp_J29_init (Z : zzG) (this : Option Nat) (p0 : Int32) (p1 : Option Nat) (p2 : Option Nat) (p3 : Option Nat) (M : zzM) (K : Option Value → zzM → Prop) : Prop := zty Z M this fun _ => wp_J28_init Z this p0 p1 p2 p3 M (fun r1 M2 => zrV r1 (K none M2))
theorem ok_J29_init {Z : zzG} {l : Launch} (hl : l.stackTraces = false) {this : Option Nat} {p0 : Int32} {p1 : Option Nat} {p2 : Option Nat} {p3 : Option Nat} {M : zzM} {mc ms : Nat} {K : Option Value → zzM → Prop} (hw : wp_J29_init Z this p0 p1 p2 p3 M K) : zz_Met Z l yJ29_init (zz_ws yJ29_init cJ29_init 5 none none) 4 [va_rf this, .int p0, va_rf p1, va_rf p2, va_rf p3] M mc ms K (fun _ _ _ => False) := by
  refine zz_ofW hl (plainFor_of_name (by decide)) (by simp only [zz_sl0, zz_slI, zz_slJ, zz_slA] <;> decide) (fun G hZ hll C E hH hR hin => ?_)
  subst hZ
  subst hll
  rw [show lv_args 0 [va_rf this, .int p0, va_rf p1, va_rf p2, va_rf p3] = [(0, va_rf this), (1, .int p0), (2, va_rf p1), (3, va_rf p2), (4, va_rf p3)] by simp only [zz_la0, zz_laI, zz_laJ, zz_laA]]
  unfold wp_J29_init at hw
  refine zz_aload_n C dJ29_init_0 rfl 0 rfl ?_
  refine zz_iload_n C dJ29_init_1 rfl 1 rfl ?_
  refine zz_aload_n C dJ29_init_2 rfl 2 rfl ?_
  refine zz_aload_n C dJ29_init_3 rfl 3 rfl ?_
  refine zz_aload C dJ29_init_4 4 rfl ?_
  obtain ⟨a9, t9, b9, fs9, hro, hL, hw⟩ := ztyS hw
  refine zz_callI (As := [.int p0, va_rf p1, va_rf p2, va_rf p3]) (rest := []) (mc := 0) (ms := 0) C hR hro dJ29_init_6 (Or.inl q1681) q1682 zl_java_util_LinkedHashMap_Entry zk_J28_init rfl zy_J28_init (by decide) (by decide) (ok_J28_init (zz_hl C) hw) (Nat.zero_le _) (Nat.zero_le _) (zz_cat10 _ (Nat.le_of_ble_eq_true rfl)) (fun r1 M2 hw => zz_kV hw (fun hw => ?_)) (fun _ _ _ h9 => h9.elim) rfl
  exact zz_vret C E dJ29_init_9 hw
abbrev cJ4_newTreeNode : ByteArray := prog_63_method_48_code
def yJ4_newTreeNode : MethodName := ⟨"java/util/HashMap", "newTreeNode", "(ILjava/lang/Object;Ljava/lang/Object;Ljava/util/HashMap$Node;)Ljava/util/HashMap$TreeNode;"⟩
def dkwJ4_newTreeNode_0 : List UInt8 := [187, 0, 180, 89, 27, 44, 45, 25, 4, 183, 1, 122, 176]
abbrev dktJ4_newTreeNode_0 : List UInt8 := dkwJ4_newTreeNode_0 ++ []
theorem dksJ4_newTreeNode_0 : cJ4_newTreeNode.data.toList.drop 0 = dktJ4_newTreeNode_0 := by decide +kernel
theorem dJ4_newTreeNode_0 : decode cJ4_newTreeNode 0 = .ok (.new 180, 3) := dk_187 0 180 (dk_at dksJ4_newTreeNode_0 0 rfl rfl)
theorem dJ4_newTreeNode_3 : decode cJ4_newTreeNode 3 = .ok (.dup, 1) := dk_89 (dk_at dksJ4_newTreeNode_0 3 rfl rfl)
theorem dJ4_newTreeNode_4 : decode cJ4_newTreeNode 4 = .ok (.iload_n 1, 1) := dk_27 (dk_at dksJ4_newTreeNode_0 4 rfl rfl)
theorem dJ4_newTreeNode_5 : decode cJ4_newTreeNode 5 = .ok (.aload_n 2, 1) := dk_44 (dk_at dksJ4_newTreeNode_0 5 rfl rfl)
theorem dJ4_newTreeNode_6 : decode cJ4_newTreeNode 6 = .ok (.aload_n 3, 1) := dk_45 (dk_at dksJ4_newTreeNode_0 6 rfl rfl)
theorem dJ4_newTreeNode_7 : decode cJ4_newTreeNode 7 = .ok (.aload 4, 2) := dk_25 4 (dk_at dksJ4_newTreeNode_0 7 rfl rfl)
theorem dJ4_newTreeNode_9 : decode cJ4_newTreeNode 9 = .ok (.invokespecial 378, 3) := dk_183 1 122 (dk_at dksJ4_newTreeNode_0 9 rfl rfl)
theorem dJ4_newTreeNode_12 : decode cJ4_newTreeNode 12 = .ok (.areturn, 1) := dk_176 (dk_at dksJ4_newTreeNode_0 12 rfl rfl)
theorem zl_java_util_HashMap_TreeNode : Cond.initialized "java/util/HashMap$TreeNode" ∈ lw_all := q134
theorem q1680 : (Jvm.Cond.code ({ cls := "java/util/HashMap$TreeNode", name := "<init>", desc := "(ILjava/lang/Object;Ljava/lang/Object;Ljava/util/HashMap$Node;)V" } : Jvm.MethodName) prog_65_method_1_code (5 : Nat) (Option.none : Option Jvm.ClassFile.FieldType)) ∈ lw_all := lw_g (lw_at lw_m7 160 rfl) rfl
theorem zk_J29_init : zz_cd yJ29_init cJ29_init 5 none none ∈ lw_all := q1680
theorem zy_J29_init : zz_yok yJ29_init 4 = true := by decide +kernel
theorem q1678 : (Jvm.Cond.methodLink "java/util/HashMap" (378 : Nat) ({ cls := "java/util/HashMap$TreeNode", name := "<init>", desc := "(ILjava/lang/Object;Ljava/lang/Object;Ljava/util/HashMap$Node;)V" } : Jvm.MethodName)) ∈ lw_all := lw_g (lw_at lw_m7 158 rfl) rfl
theorem q1679 : (Jvm.Cond.instanceMethod ({ cls := "java/util/HashMap$TreeNode", name := "<init>", desc := "(ILjava/lang/Object;Ljava/lang/Object;Ljava/util/HashMap$Node;)V" } : Jvm.MethodName)) ∈ lw_all := lw_g (lw_at lw_m7 159 rfl) rfl
def wp_J4_newTreeNode (Z : zzG) (this : Option Nat) (p0 : Int32) (p1 : Option Nat) (p2 : Option Nat) (p3 : Option Nat) (M : zzM) (bc bs : Nat) (K : Option Value → zzM → Prop) : Prop := znew Z M bc bs 25 11 [.int 0, .null, .null, .null, .null, .null, .null, .null, .int 0, .null, .null] fun q1 M2 bc3 bs4 => wp_J29_init Z (some q1) p0 p1 p2 p3 M2 (fun r5 M6 => zrV r5 (K (some (va_rf (some q1))) M6))
theorem ok_J4_newTreeNode {Z : zzG} {l : Launch} (hl : l.stackTraces = false) {this : Option Nat} {p0 : Int32} {p1 : Option Nat} {p2 : Option Nat} {p3 : Option Nat} {M : zzM} {mc ms : Nat} {K : Option Value → zzM → Prop} (hw : wp_J4_newTreeNode Z this p0 p1 p2 p3 M mc ms K) : zz_Met Z l yJ4_newTreeNode (zz_ws yJ4_newTreeNode cJ4_newTreeNode 5 (some (.object "java/util/HashMap$TreeNode")) none) 5 [va_rf this, .int p0, va_rf p1, va_rf p2, va_rf p3] M mc ms K (fun _ _ _ => False) := by
  refine zz_ofW hl (plainFor_of_name (by decide)) (by simp only [zz_sl0, zz_slI, zz_slJ, zz_slA] <;> decide) (fun G hZ hll C E hH hR hin => ?_)
  subst hZ
  subst hll
  rw [show lv_args 0 [va_rf this, .int p0, va_rf p1, va_rf p2, va_rf p3] = [(0, va_rf this), (1, .int p0), (2, va_rf p1), (3, va_rf p2), (4, va_rf p3)] by simp only [zz_la0, zz_laI, zz_laJ, zz_laA]]
  unfold wp_J4_newTreeNode at hw
  refine zz_new (r := (zR_25, zT_25, 11)) C dJ4_newTreeNode_0 rfl (by decide) q1334 q1677 zl_java_util_HashMap_TreeNode rfl hw (fun q1 M2 bc3 bs4 hw => ?_)
  refine zz_dup C dJ4_newTreeNode_3 (zz_cat _) ?_
  refine zz_iload_n C dJ4_newTreeNode_4 rfl 1 rfl ?_
  refine zz_aload_n C dJ4_newTreeNode_5 rfl 2 rfl ?_
  refine zz_aload_n C dJ4_newTreeNode_6 rfl 3 rfl ?_
  refine zz_aload C dJ4_newTreeNode_7 4 rfl ?_
  refine zz_callI (As := [.int p0, va_rf p1, va_rf p2, va_rf p3]) (rest := [va_rf (some q1)]) (mc := 0) (ms := 0) C hR rfl dJ4_newTreeNode_9 (Or.inl q1678) q1679 zl_java_util_HashMap_TreeNode zk_J29_init rfl zy_J29_init (by decide) (by decide) (ok_J29_init (zz_hl C) hw) (Nat.zero_le _) (Nat.zero_le _) (zz_cat10 _ (Nat.le_of_ble_eq_true rfl)) (fun r5 M6 hw => zz_kV hw (fun hw => ?_)) (fun _ _ _ h9 => h9.elim) rfl
  exact zz_aret C E (Or.inl ⟨_, rfl⟩) dJ4_newTreeNode_12 hw
abbrev cJ29_rotateLeft : ByteArray := prog_65_method_12_code
def yJ29_rotateLeft : MethodName := ⟨"java/util/HashMap$TreeNode", "rotateLeft", "(Ljava/util/HashMap$TreeNode;Ljava/util/HashMap$TreeNode;)Ljava/util/HashMap$TreeNode;"⟩
def dkwJ29_rotateLeft_3 : List UInt8 := [181, 0, 39, 167, 0, 8, 45, 44, 181, 0, 42, 44, 43, 181, 0, 39, 43, 44, 181, 0, 9, 42, 176]
abbrev dktJ29_rotateLeft_3 : List UInt8 := dkwJ29_rotateLeft_3 ++ []
def dkwJ29_rotateLeft_2 : List UInt8 := [199, 0, 13, 44, 89, 75, 3, 181, 0, 93, 167, 0, 24, 45, 180, 0, 39, 43, 166, 0, 11, 45, 44]
abbrev dktJ29_rotateLeft_2 : List UInt8 := dkwJ29_rotateLeft_2 ++ dktJ29_rotateLeft_3
def dkwJ29_rotateLeft_1 : List UInt8 := [58, 4, 198, 0, 9, 25, 4, 43, 181, 0, 9, 44, 43, 180, 0, 9, 90, 181, 0, 9, 89, 78]
abbrev dktJ29_rotateLeft_1 : List UInt8 := dkwJ29_rotateLeft_1 ++ dktJ29_rotateLeft_2
def dkwJ29_rotateLeft_0 : List UInt8 := [43, 198, 0, 88, 43, 180, 0, 42, 89, 77, 198, 0, 79, 43, 44, 180, 0, 39, 90, 181, 0, 42, 89]
abbrev dktJ29_rotateLeft_0 : List UInt8 := dkwJ29_rotateLeft_0 ++ dktJ29_rotateLeft_1
theorem dksJ29_rotateLeft_0 : cJ29_rotateLeft.data.toList.drop 0 = dktJ29_rotateLeft_0 := by decide +kernel
theorem dksJ29_rotateLeft_1 : cJ29_rotateLeft.data.toList.drop 23 = dktJ29_rotateLeft_1 := dk_seg dksJ29_rotateLeft_0 23 rfl rfl
theorem dksJ29_rotateLeft_2 : cJ29_rotateLeft.data.toList.drop 45 = dktJ29_rotateLeft_2 := dk_seg dksJ29_rotateLeft_1 22 rfl rfl
theorem dksJ29_rotateLeft_3 : cJ29_rotateLeft.data.toList.drop 68 = dktJ29_rotateLeft_3 := dk_seg dksJ29_rotateLeft_2 23 rfl rfl
theorem dJ29_rotateLeft_0 : decode cJ29_rotateLeft 0 = .ok (.aload_n 1, 1) := dk_43 (dk_at dksJ29_rotateLeft_0 0 rfl rfl)
theorem dJ29_rotateLeft_1 : decode cJ29_rotateLeft 1 = .ok (.ifnull 88, 3) := dk_198 0 88 (dk_at dksJ29_rotateLeft_0 1 rfl rfl)
theorem dJ29_rotateLeft_4 : decode cJ29_rotateLeft 4 = .ok (.aload_n 1, 1) := dk_43 (dk_at dksJ29_rotateLeft_0 4 rfl rfl)
theorem dJ29_rotateLeft_5 : decode cJ29_rotateLeft 5 = .ok (.getfield 42, 3) := dk_180 0 42 (dk_at dksJ29_rotateLeft_0 5 rfl rfl)
theorem dJ29_rotateLeft_8 : decode cJ29_rotateLeft 8 = .ok (.dup, 1) := dk_89 (dk_at dksJ29_rotateLeft_0 8 rfl rfl)
theorem dJ29_rotateLeft_9 : decode cJ29_rotateLeft 9 = .ok (.astore_n 2, 1) := dk_77 (dk_at dksJ29_rotateLeft_0 9 rfl rfl)
theorem dJ29_rotateLeft_10 : decode cJ29_rotateLeft 10 = .ok (.ifnull 79, 3) := dk_198 0 79 (dk_at dksJ29_rotateLeft_0 10 rfl rfl)
theorem dJ29_rotateLeft_13 : decode cJ29_rotateLeft 13 = .ok (.aload_n 1, 1) := dk_43 (dk_at dksJ29_rotateLeft_0 13 rfl rfl)
theorem dJ29_rotateLeft_14 : decode cJ29_rotateLeft 14 = .ok (.aload_n 2, 1) := dk_44 (dk_at dksJ29_rotateLeft_0 14 rfl rfl)
theorem dJ29_rotateLeft_15 : decode cJ29_rotateLeft 15 = .ok (.getfield 39, 3) := dk_180 0 39 (dk_at dksJ29_rotateLeft_0 15 rfl rfl)
theorem dJ29_rotateLeft_18 : decode cJ29_rotateLeft 18 = .ok (.dup_x1, 1) := dk_90 (dk_at dksJ29_rotateLeft_0 18 rfl rfl)
theorem dJ29_rotateLeft_19 : decode cJ29_rotateLeft 19 = .ok (.putfield 42, 3) := dk_181 0 42 (dk_at dksJ29_rotateLeft_0 19 rfl rfl)
theorem dJ29_rotateLeft_22 : decode cJ29_rotateLeft 22 = .ok (.dup, 1) := dk_89 (dk_at dksJ29_rotateLeft_0 22 rfl rfl)
theorem dJ29_rotateLeft_23 : decode cJ29_rotateLeft 23 = .ok (.astore 4, 2) := dk_58 4 (dk_at dksJ29_rotateLeft_1 0 rfl rfl)
theorem dJ29_rotateLeft_25 : decode cJ29_rotateLeft 25 = .ok (.ifnull 9, 3) := dk_198 0 9 (dk_at dksJ29_rotateLeft_1 2 rfl rfl)
theorem dJ29_rotateLeft_28 : decode cJ29_rotateLeft 28 = .ok (.aload 4, 2) := dk_25 4 (dk_at dksJ29_rotateLeft_1 5 rfl rfl)
theorem dJ29_rotateLeft_30 : decode cJ29_rotateLeft 30 = .ok (.aload_n 1, 1) := dk_43 (dk_at dksJ29_rotateLeft_1 7 rfl rfl)
theorem dJ29_rotateLeft_31 : decode cJ29_rotateLeft 31 = .ok (.putfield 9, 3) := dk_181 0 9 (dk_at dksJ29_rotateLeft_1 8 rfl rfl)
theorem dJ29_rotateLeft_34 : decode cJ29_rotateLeft 34 = .ok (.aload_n 2, 1) := dk_44 (dk_at dksJ29_rotateLeft_1 11 rfl rfl)
theorem dJ29_rotateLeft_35 : decode cJ29_rotateLeft 35 = .ok (.aload_n 1, 1) := dk_43 (dk_at dksJ29_rotateLeft_1 12 rfl rfl)
theorem dJ29_rotateLeft_36 : decode cJ29_rotateLeft 36 = .ok (.getfield 9, 3) := dk_180 0 9 (dk_at dksJ29_rotateLeft_1 13 rfl rfl)
theorem dJ29_rotateLeft_39 : decode cJ29_rotateLeft 39 = .ok (.dup_x1, 1) := dk_90 (dk_at dksJ29_rotateLeft_1 16 rfl rfl)
theorem dJ29_rotateLeft_40 : decode cJ29_rotateLeft 40 = .ok (.putfield 9, 3) := dk_181 0 9 (dk_at dksJ29_rotateLeft_1 17 rfl rfl)
theorem dJ29_rotateLeft_43 : decode cJ29_rotateLeft 43 = .ok (.dup, 1) := dk_89 (dk_at dksJ29_rotateLeft_1 20 rfl rfl)
theorem dJ29_rotateLeft_44 : decode cJ29_rotateLeft 44 = .ok (.astore_n 3, 1) := dk_78 (dk_at dksJ29_rotateLeft_1 21 rfl rfl)
theorem dJ29_rotateLeft_45 : decode cJ29_rotateLeft 45 = .ok (.ifnonnull 13, 3) := dk_199 0 13 (dk_at dksJ29_rotateLeft_2 0 rfl rfl)
theorem dJ29_rotateLeft_48 : decode cJ29_rotateLeft 48 = .ok (.aload_n 2, 1) := dk_44 (dk_at dksJ29_rotateLeft_2 3 rfl rfl)
theorem dJ29_rotateLeft_49 : decode cJ29_rotateLeft 49 = .ok (.dup, 1) := dk_89 (dk_at dksJ29_rotateLeft_2 4 rfl rfl)
theorem dJ29_rotateLeft_50 : decode cJ29_rotateLeft 50 = .ok (.astore_n 0, 1) := dk_75 (dk_at dksJ29_rotateLeft_2 5 rfl rfl)
theorem dJ29_rotateLeft_51 : decode cJ29_rotateLeft 51 = .ok (.iconst 0, 1) := dk_3 (dk_at dksJ29_rotateLeft_2 6 rfl rfl)
theorem dJ29_rotateLeft_52 : decode cJ29_rotateLeft 52 = .ok (.putfield 93, 3) := dk_181 0 93 (dk_at dksJ29_rotateLeft_2 7 rfl rfl)
theorem dJ29_rotateLeft_55 : decode cJ29_rotateLeft 55 = .ok (.goto 24, 3) := dk_167 0 24 (dk_at dksJ29_rotateLeft_2 10 rfl rfl)
theorem dJ29_rotateLeft_58 : decode cJ29_rotateLeft 58 = .ok (.aload_n 3, 1) := dk_45 (dk_at dksJ29_rotateLeft_2 13 rfl rfl)
theorem dJ29_rotateLeft_59 : decode cJ29_rotateLeft 59 = .ok (.getfield 39, 3) := dk_180 0 39 (dk_at dksJ29_rotateLeft_2 14 rfl rfl)
theorem dJ29_rotateLeft_62 : decode cJ29_rotateLeft 62 = .ok (.aload_n 1, 1) := dk_43 (dk_at dksJ29_rotateLeft_2 17 rfl rfl)
theorem dJ29_rotateLeft_63 : decode cJ29_rotateLeft 63 = .ok (.if_acmp .ne 11, 3) := dk_166 0 11 (dk_at dksJ29_rotateLeft_2 18 rfl rfl)
theorem dJ29_rotateLeft_66 : decode cJ29_rotateLeft 66 = .ok (.aload_n 3, 1) := dk_45 (dk_at dksJ29_rotateLeft_2 21 rfl rfl)
theorem dJ29_rotateLeft_67 : decode cJ29_rotateLeft 67 = .ok (.aload_n 2, 1) := dk_44 (dk_at dksJ29_rotateLeft_2 22 rfl rfl)
theorem dJ29_rotateLeft_68 : decode cJ29_rotateLeft 68 = .ok (.putfield 39, 3) := dk_181 0 39 (dk_at dksJ29_rotateLeft_3 0 rfl rfl)
theorem dJ29_rotateLeft_71 : decode cJ29_rotateLeft 71 = .ok (.goto 8, 3) := dk_167 0 8 (dk_at dksJ29_rotateLeft_3 3 rfl rfl)
theorem dJ29_rotateLeft_74 : decode cJ29_rotateLeft 74 = .ok (.aload_n 3, 1) := dk_45 (dk_at dksJ29_rotateLeft_3 6 rfl rfl)
theorem dJ29_rotateLeft_75 : decode cJ29_rotateLeft 75 = .ok (.aload_n 2, 1) := dk_44 (dk_at dksJ29_rotateLeft_3 7 rfl rfl)
theorem dJ29_rotateLeft_76 : decode cJ29_rotateLeft 76 = .ok (.putfield 42, 3) := dk_181 0 42 (dk_at dksJ29_rotateLeft_3 8 rfl rfl)
theorem dJ29_rotateLeft_79 : decode cJ29_rotateLeft 79 = .ok (.aload_n 2, 1) := dk_44 (dk_at dksJ29_rotateLeft_3 11 rfl rfl)
theorem dJ29_rotateLeft_80 : decode cJ29_rotateLeft 80 = .ok (.aload_n 1, 1) := dk_43 (dk_at dksJ29_rotateLeft_3 12 rfl rfl)
theorem dJ29_rotateLeft_81 : decode cJ29_rotateLeft 81 = .ok (.putfield 39, 3) := dk_181 0 39 (dk_at dksJ29_rotateLeft_3 13 rfl rfl)
theorem dJ29_rotateLeft_84 : decode cJ29_rotateLeft 84 = .ok (.aload_n 1, 1) := dk_43 (dk_at dksJ29_rotateLeft_3 16 rfl rfl)
theorem dJ29_rotateLeft_85 : decode cJ29_rotateLeft 85 = .ok (.aload_n 2, 1) := dk_44 (dk_at dksJ29_rotateLeft_3 17 rfl rfl)
theorem dJ29_rotateLeft_86 : decode cJ29_rotateLeft 86 = .ok (.putfield 9, 3) := dk_181 0 9 (dk_at dksJ29_rotateLeft_3 18 rfl rfl)
theorem dJ29_rotateLeft_89 : decode cJ29_rotateLeft 89 = .ok (.aload_n 0, 1) := dk_42 (dk_at dksJ29_rotateLeft_3 21 rfl rfl)
theorem dJ29_rotateLeft_90 : decode cJ29_rotateLeft 90 = .ok (.areturn, 1) := dk_176 (dk_at dksJ29_rotateLeft_3 22 rfl rfl)
theorem zf_25_6_shMap_TreeNode : zz_fok [25] 6 "java/util/HashMap$TreeNode" "right" "Ljava/util/HashMap$TreeNode;" := zz_fok1 (zR_25, zT_25, 11) rfl (by decide) rfl rfl (Or.inl rfl)
theorem q1687 : (Jvm.Cond.fieldLink "java/util/HashMap$TreeNode" (42 : Nat) "java/util/HashMap$TreeNode" "right" "Ljava/util/HashMap$TreeNode;") ∈ lw_all := lw_g (lw_at lw_m7 167 rfl) rfl
theorem zf_25_5_shMap_TreeNode : zz_fok [25] 5 "java/util/HashMap$TreeNode" "left" "Ljava/util/HashMap$TreeNode;" := zz_fok1 (zR_25, zT_25, 11) rfl (by decide) rfl rfl (Or.inl rfl)
theorem q1686 : (Jvm.Cond.fieldLink "java/util/HashMap$TreeNode" (39 : Nat) "java/util/HashMap$TreeNode" "left" "Ljava/util/HashMap$TreeNode;") ∈ lw_all := lw_g (lw_at lw_m7 166 rfl) rfl
theorem zp_25_6 : zz_pok [25] 6 := zz_pok1 (zR_25, zT_25, 11) (by decide) rfl rfl
theorem zp_25_4 : zz_pok [25] 4 := zz_pok1 (zR_25, zT_25, 11) (by decide) rfl rfl
theorem zp_25_5 : zz_pok [25] 5 := zz_pok1 (zR_25, zT_25, 11) (by decide) rfl rfl
theorem zf_25_8_shMap_TreeNode : zz_fok [25] 8 "java/util/HashMap$TreeNode" "red" "Z" := zz_fok1 (zR_25, zT_25, 11) rfl (by decide) rfl rfl (Or.inl rfl)
theorem q1690 : (Jvm.Cond.fieldLink "java/util/HashMap$TreeNode" (93 : Nat) "java/util/HashMap$TreeNode" "red" "Z") ∈ lw_all := lw_g (lw_at lw_m7 170 rfl) rfl
theorem zp_25_8 : zz_pok [25] 8 := zz_pok1 (zR_25, zT_25, 11) (by decide) rfl rfl
def wp_J29_rotateLeft_B89 (Z : zzG) (K : Option Value → zzM → Prop) (v0 : Option Nat) (M : zzM) : Prop := K (some (va_rf v0)) M
def wp_J29_rotateLeft_B79 (Z : zzG) (K : Option Value → zzM → Prop) (v0 : Option Nat) (v1 : Option Nat) (v2 : Option Nat) (M : zzM) : Prop := zput Z M v2 [25] 5 (va_rf v1) fun M11 => zput Z M11 v1 [25] 4 (va_rf v2) fun M12 => wp_J29_rotateLeft_B89 Z K v0 M12
def wp_J29_rotateLeft_B34 (Z : zzG) (K : Option Value → zzM → Prop) (v0 : Option Nat) (v1 : Option Nat) (v2 : Option Nat) (M : zzM) : Prop := zgA Z M v1 [25] 4 fun x5 => zput Z M v2 [25] 4 (va_rf x5) fun M6 => if x5 = none then (zfit .boolean (0 : Int32) ∧ zput Z M6 v2 [25] 8 (.int (0 : Int32)) fun M10 => wp_J29_rotateLeft_B79 Z K v2 v1 v2 M10) else (zgA Z M6 x5 [25] 5 fun x7 => if x7 = v1 then (zput Z M6 x5 [25] 5 (va_rf v2) fun M9 => wp_J29_rotateLeft_B79 Z K v0 v1 v2 M9) else (zput Z M6 x5 [25] 6 (va_rf v2) fun M8 => wp_J29_rotateLeft_B79 Z K v0 v1 v2 M8))
def wp_J29_rotateLeft (Z : zzG) (p0 : Option Nat) (p1 : Option Nat) (M : zzM) (K : Option Value → zzM → Prop) : Prop := if p1 = none then (wp_J29_rotateLeft_B89 Z K p0 M) else (zgA Z M p1 [25] 6 fun x1 => if x1 = none then (wp_J29_rotateLeft_B89 Z K p0 M) else (zgA Z M x1 [25] 5 fun x2 => zput Z M p1 [25] 6 (va_rf x2) fun M3 => if x2 = none then (wp_J29_rotateLeft_B34 Z K p0 p1 x1 M3) else (zput Z M3 x2 [25] 4 (va_rf p1) fun M4 => wp_J29_rotateLeft_B34 Z K p0 p1 x1 M4)))
theorem ok_J29_rotateLeft_B89 {G : zzX} (C : zz_C G cJ29_rotateLeft "java/util/HashMap$TreeNode" 5) {K : Option Value → zzM → Prop} (E : zz_E G (some (.object "java/util/HashMap$TreeNode")) K (fun _ _ _ => False)) (hH : zz_H G []) (hR : zz_Rm G 1) {v0 : Option Nat} {M : zzM} {bc bs : Nat} (hw : wp_J29_rotateLeft_B89 (zz_Zof G) K v0 M) : zz_T G 5 M bc bs 89 [(0, va_rf v0)] [] := by
  unfold wp_J29_rotateLeft_B89 at hw
  refine zz_aload_n C dJ29_rotateLeft_89 rfl 0 rfl ?_
  exact zz_aret C E (Or.inl ⟨_, rfl⟩) dJ29_rotateLeft_90 hw
theorem ok_J29_rotateLeft_B79 {G : zzX} (C : zz_C G cJ29_rotateLeft "java/util/HashMap$TreeNode" 5) {K : Option Value → zzM → Prop} (E : zz_E G (some (.object "java/util/HashMap$TreeNode")) K (fun _ _ _ => False)) (hH : zz_H G []) (hR : zz_Rm G 1) {v0 : Option Nat} {v1 : Option Nat} {v2 : Option Nat} {M : zzM} {bc bs : Nat} (hw : wp_J29_rotateLeft_B79 (zz_Zof G) K v0 v1 v2 M) : zz_T G 5 M bc bs 79 [(0, va_rf v0), (1, va_rf v1), (2, va_rf v2)] [] := by
  unfold wp_J29_rotateLeft_B79 at hw
  refine zz_aload_n C dJ29_rotateLeft_79 rfl 2 rfl ?_
  refine zz_aload_n C dJ29_rotateLeft_80 rfl 1 rfl ?_
  refine zz_put C dJ29_rotateLeft_81 (Or.inl q1686) zf_25_5_shMap_TreeNode zp_25_5 (zz_hn1 (zz_nA _ rfl v1)) hw (fun M11 hw => ?_)
  refine zz_aload_n C dJ29_rotateLeft_84 rfl 1 rfl ?_
  refine zz_aload_n C dJ29_rotateLeft_85 rfl 2 rfl ?_
  refine zz_put C dJ29_rotateLeft_86 (Or.inl q1685) zf_25_4_shMap_TreeNode zp_25_4 (zz_hn1 (zz_nA _ rfl v2)) hw (fun M12 hw => ?_)
  refine zz_subP [0] rfl ?_
  exact ok_J29_rotateLeft_B89 C E hH hR hw
theorem ok_J29_rotateLeft_B34 {G : zzX} (C : zz_C G cJ29_rotateLeft "java/util/HashMap$TreeNode" 5) {K : Option Value → zzM → Prop} (E : zz_E G (some (.object "java/util/HashMap$TreeNode")) K (fun _ _ _ => False)) (hH : zz_H G []) (hR : zz_Rm G 1) {v0 : Option Nat} {v1 : Option Nat} {v2 : Option Nat} {M : zzM} {bc bs : Nat} (hw : wp_J29_rotateLeft_B34 (zz_Zof G) K v0 v1 v2 M) : zz_T G 5 M bc bs 34 [(0, va_rf v0), (1, va_rf v1), (2, va_rf v2)] [] := by
  unfold wp_J29_rotateLeft_B34 at hw
  refine zz_aload_n C dJ29_rotateLeft_34 rfl 2 rfl ?_
  refine zz_aload_n C dJ29_rotateLeft_35 rfl 1 rfl ?_
  refine zz_getA C dJ29_rotateLeft_36 (Or.inl q1685) zf_25_4_shMap_TreeNode hw (fun x5 hw => ?_)
  refine zz_dup_x1 C dJ29_rotateLeft_39 (zz_cat _) (zz_cat _) ?_
  refine zz_put C dJ29_rotateLeft_40 (Or.inl q1685) zf_25_4_shMap_TreeNode zp_25_4 (zz_hn1 (zz_nA _ rfl x5)) hw (fun M6 hw => ?_)
  refine zz_dup C dJ29_rotateLeft_43 (zz_cat _) ?_
  refine zz_astore_n (i := 3) (lv' := [(3, va_rf x5), (0, va_rf v0), (1, va_rf v1), (2, va_rf v2)]) C dJ29_rotateLeft_44 rfl (by decide) (by simp [zz_cat, zz_catI, zz_catJ, zz_catD]) ?_
  refine zz_ifnonnull (tgt := 58) C dJ29_rotateLeft_45 (by decide) hw (fun hw => ?_) (fun hw => ?_)
  · refine zz_aload_n C dJ29_rotateLeft_58 rfl 0 rfl ?_
    refine zz_getA C dJ29_rotateLeft_59 (Or.inl q1686) zf_25_5_shMap_TreeNode hw (fun x7 hw => ?_)
    refine zz_aload_n C dJ29_rotateLeft_62 rfl 2 rfl ?_
    refine zz_acmp_ne (tgt := 74) C dJ29_rotateLeft_63 (by decide) hw (fun hw => ?_) (fun hw => ?_)
    · refine zz_aload_n C dJ29_rotateLeft_74 rfl 0 rfl ?_
      refine zz_aload_n C dJ29_rotateLeft_75 rfl 3 rfl ?_
      refine zz_put C dJ29_rotateLeft_76 (Or.inl q1687) zf_25_6_shMap_TreeNode zp_25_6 (zz_hn1 (zz_nA _ rfl v2)) hw (fun M8 hw => ?_)
      refine zz_subP [1, 2, 3] rfl ?_
      exact ok_J29_rotateLeft_B79 C E hH hR hw
    · refine zz_aload_n C dJ29_rotateLeft_66 rfl 0 rfl ?_
      refine zz_aload_n C dJ29_rotateLeft_67 rfl 3 rfl ?_
      refine zz_put C dJ29_rotateLeft_68 (Or.inl q1686) zf_25_5_shMap_TreeNode zp_25_5 (zz_hn1 (zz_nA _ rfl v2)) hw (fun M9 hw => ?_)
      refine zz_goto (tgt := 79) C dJ29_rotateLeft_71 (by decide) ?_
      refine zz_subP [1, 2, 3] rfl ?_
      exact ok_J29_rotateLeft_B79 C E hH hR hw
  · refine zz_aload_n C dJ29_rotateLeft_48 rfl 3 rfl ?_
    refine zz_dup C dJ29_rotateLeft_49 (zz_cat _) ?_
    refine zz_astore_n (i := 0) (lv' := [(0, va_rf v2), (3, va_rf x5), (1, va_rf v1), (2, va_rf v2)]) C dJ29_rotateLeft_50 rfl (by decide) rfl ?_
    refine zz_iconst (v := (0 : Int32)) C dJ29_rotateLeft_51 (by decide) ?_
    obtain ⟨hfit, hw⟩ := hw
    refine zz_put C dJ29_rotateLeft_52 (Or.inl q1690) zf_25_8_shMap_TreeNode zp_25_8 (zz_hn1 hfit) hw (fun M10 hw => ?_)
    refine zz_goto (tgt := 79) C dJ29_rotateLeft_55 (by decide) ?_
    refine zz_subP [0, 2, 3] rfl ?_
    exact ok_J29_rotateLeft_B79 C E hH hR hw
theorem ok_J29_rotateLeft {Z : zzG} {l : Launch} (hl : l.stackTraces = false) {p0 : Option Nat} {p1 : Option Nat} {M : zzM} {mc ms : Nat} {K : Option Value → zzM → Prop} (hw : wp_J29_rotateLeft Z p0 p1 M K) : zz_Met Z l yJ29_rotateLeft (zz_ws yJ29_rotateLeft cJ29_rotateLeft 5 (some (.object "java/util/HashMap$TreeNode")) none) 1 [va_rf p0, va_rf p1] M mc ms K (fun _ _ _ => False) := by
  refine zz_ofW hl (plainFor_of_name (by decide)) (by simp only [zz_sl0, zz_slI, zz_slJ, zz_slA] <;> decide) (fun G hZ hll C E hH hR hin => ?_)
  subst hZ
  subst hll
  rw [show lv_args 0 [va_rf p0, va_rf p1] = [(0, va_rf p0), (1, va_rf p1)] by simp only [zz_la0, zz_laI, zz_laJ, zz_laA]]
  unfold wp_J29_rotateLeft at hw
  refine zz_aload_n C dJ29_rotateLeft_0 rfl 1 rfl ?_
  refine zz_ifnull (tgt := 89) C dJ29_rotateLeft_1 (by decide) hw (fun hw => ?_) (fun hw => ?_)
  · refine zz_subP [0] rfl ?_
    exact ok_J29_rotateLeft_B89 C E hH hR hw
  · refine zz_aload_n C dJ29_rotateLeft_4 rfl 1 rfl ?_
    refine zz_getA C dJ29_rotateLeft_5 (Or.inl q1687) zf_25_6_shMap_TreeNode hw (fun x1 hw => ?_)
    refine zz_dup C dJ29_rotateLeft_8 (zz_cat _) ?_
    refine zz_astore_n (i := 2) (lv' := [(2, va_rf x1), (0, va_rf p0), (1, va_rf p1)]) C dJ29_rotateLeft_9 rfl (by decide) (by simp [zz_cat, zz_catI, zz_catJ, zz_catD]) ?_
    refine zz_ifnull (tgt := 89) C dJ29_rotateLeft_10 (by decide) hw (fun hw => ?_) (fun hw => ?_)
    · refine zz_subP [1] rfl ?_
      exact ok_J29_rotateLeft_B89 C E hH hR hw
    · refine zz_aload_n C dJ29_rotateLeft_13 rfl 2 rfl ?_
      refine zz_aload_n C dJ29_rotateLeft_14 rfl 0 rfl ?_
      refine zz_getA C dJ29_rotateLeft_15 (Or.inl q1686) zf_25_5_shMap_TreeNode hw (fun x2 hw => ?_)
      refine zz_dup_x1 C dJ29_rotateLeft_18 (zz_cat _) (zz_cat _) ?_
      refine zz_put C dJ29_rotateLeft_19 (Or.inl q1687) zf_25_6_shMap_TreeNode zp_25_6 (zz_hn1 (zz_nA _ rfl x2)) hw (fun M3 hw => ?_)
      refine zz_dup C dJ29_rotateLeft_22 (zz_cat _) ?_
      refine zz_astore (lv' := [(4, va_rf x2), (2, va_rf x1), (0, va_rf p0), (1, va_rf p1)]) C dJ29_rotateLeft_23 (by decide) rfl ?_
      refine zz_ifnull (tgt := 34) C dJ29_rotateLeft_25 (by decide) hw (fun hw => ?_) (fun hw => ?_)
      · refine zz_subP [2, 3, 1] rfl ?_
        exact ok_J29_rotateLeft_B34 C E hH hR hw
      · refine zz_aload C dJ29_rotateLeft_28 0 rfl ?_
        refine zz_aload_n C dJ29_rotateLeft_30 rfl 3 rfl ?_
        refine zz_put C dJ29_rotateLeft_31 (Or.inl q1685) zf_25_4_shMap_TreeNode zp_25_4 (zz_hn1 (zz_nA _ rfl p1)) hw (fun M4 hw => ?_)
        refine zz_subP [2, 3, 1] rfl ?_
        exact ok_J29_rotateLeft_B34 C E hH hR hw
abbrev cJ29_rotateRight : ByteArray := prog_65_method_13_code
def yJ29_rotateRight : MethodName := ⟨"java/util/HashMap$TreeNode", "rotateRight", "(Ljava/util/HashMap$TreeNode;Ljava/util/HashMap$TreeNode;)Ljava/util/HashMap$TreeNode;"⟩
def dkwJ29_rotateRight_3 : List UInt8 := [181, 0, 42, 167, 0, 8, 45, 44, 181, 0, 39, 44, 43, 181, 0, 42, 43, 44, 181, 0, 9, 42, 176]
abbrev dktJ29_rotateRight_3 : List UInt8 := dkwJ29_rotateRight_3 ++ []
def dkwJ29_rotateRight_2 : List UInt8 := [199, 0, 13, 44, 89, 75, 3, 181, 0, 93, 167, 0, 24, 45, 180, 0, 42, 43, 166, 0, 11, 45, 44]
abbrev dktJ29_rotateRight_2 : List UInt8 := dkwJ29_rotateRight_2 ++ dktJ29_rotateRight_3
def dkwJ29_rotateRight_1 : List UInt8 := [58, 4, 198, 0, 9, 25, 4, 43, 181, 0, 9, 44, 43, 180, 0, 9, 90, 181, 0, 9, 89, 78]
abbrev dktJ29_rotateRight_1 : List UInt8 := dkwJ29_rotateRight_1 ++ dktJ29_rotateRight_2
def dkwJ29_rotateRight_0 : List UInt8 := [43, 198, 0, 88, 43, 180, 0, 39, 89, 77, 198, 0, 79, 43, 44, 180, 0, 42, 90, 181, 0, 39, 89]
abbrev dktJ29_rotateRight_0 : List UInt8 := dkwJ29_rotateRight_0 ++ dktJ29_rotateRight_1
theorem dksJ29_rotateRight_0 : cJ29_rotateRight.data.toList.drop 0 = dktJ29_rotateRight_0 := by decide +kernel
theorem dksJ29_rotateRight_1 : cJ29_rotateRight.data.toList.drop 23 = dktJ29_rotateRight_1 := dk_seg dksJ29_rotateRight_0 23 rfl rfl
theorem dksJ29_rotateRight_2 : cJ29_rotateRight.data.toList.drop 45 = dktJ29_rotateRight_2 := dk_seg dksJ29_rotateRight_1 22 rfl rfl
theorem dksJ29_rotateRight_3 : cJ29_rotateRight.data.toList.drop 68 = dktJ29_rotateRight_3 := dk_seg dksJ29_rotateRight_2 23 rfl rfl
theorem dJ29_rotateRight_0 : decode cJ29_rotateRight 0 = .ok (.aload_n 1, 1) := dk_43 (dk_at dksJ29_rotateRight_0 0 rfl rfl)
theorem dJ29_rotateRight_1 : decode cJ29_rotateRight 1 = .ok (.ifnull 88, 3) := dk_198 0 88 (dk_at dksJ29_rotateRight_0 1 rfl rfl)
theorem dJ29_rotateRight_4 : decode cJ29_rotateRight 4 = .ok (.aload_n 1, 1) := dk_43 (dk_at dksJ29_rotateRight_0 4 rfl rfl)
theorem dJ29_rotateRight_5 : decode cJ29_rotateRight 5 = .ok (.getfield 39, 3) := dk_180 0 39 (dk_at dksJ29_rotateRight_0 5 rfl rfl)
theorem dJ29_rotateRight_8 : decode cJ29_rotateRight 8 = .ok (.dup, 1) := dk_89 (dk_at dksJ29_rotateRight_0 8 rfl rfl)
theorem dJ29_rotateRight_9 : decode cJ29_rotateRight 9 = .ok (.astore_n 2, 1) := dk_77 (dk_at dksJ29_rotateRight_0 9 rfl rfl)
theorem dJ29_rotateRight_10 : decode cJ29_rotateRight 10 = .ok (.ifnull 79, 3) := dk_198 0 79 (dk_at dksJ29_rotateRight_0 10 rfl rfl)
theorem dJ29_rotateRight_13 : decode cJ29_rotateRight 13 = .ok (.aload_n 1, 1) := dk_43 (dk_at dksJ29_rotateRight_0 13 rfl rfl)
theorem dJ29_rotateRight_14 : decode cJ29_rotateRight 14 = .ok (.aload_n 2, 1) := dk_44 (dk_at dksJ29_rotateRight_0 14 rfl rfl)
theorem dJ29_rotateRight_15 : decode cJ29_rotateRight 15 = .ok (.getfield 42, 3) := dk_180 0 42 (dk_at dksJ29_rotateRight_0 15 rfl rfl)
theorem dJ29_rotateRight_18 : decode cJ29_rotateRight 18 = .ok (.dup_x1, 1) := dk_90 (dk_at dksJ29_rotateRight_0 18 rfl rfl)
theorem dJ29_rotateRight_19 : decode cJ29_rotateRight 19 = .ok (.putfield 39, 3) := dk_181 0 39 (dk_at dksJ29_rotateRight_0 19 rfl rfl)
theorem dJ29_rotateRight_22 : decode cJ29_rotateRight 22 = .ok (.dup, 1) := dk_89 (dk_at dksJ29_rotateRight_0 22 rfl rfl)
theorem dJ29_rotateRight_23 : decode cJ29_rotateRight 23 = .ok (.astore 4, 2) := dk_58 4 (dk_at dksJ29_rotateRight_1 0 rfl rfl)
theorem dJ29_rotateRight_25 : decode cJ29_rotateRight 25 = .ok (.ifnull 9, 3) := dk_198 0 9 (dk_at dksJ29_rotateRight_1 2 rfl rfl)
theorem dJ29_rotateRight_28 : decode cJ29_rotateRight 28 = .ok (.aload 4, 2) := dk_25 4 (dk_at dksJ29_rotateRight_1 5 rfl rfl)
theorem dJ29_rotateRight_30 : decode cJ29_rotateRight 30 = .ok (.aload_n 1, 1) := dk_43 (dk_at dksJ29_rotateRight_1 7 rfl rfl)
theorem dJ29_rotateRight_31 : decode cJ29_rotateRight 31 = .ok (.putfield 9, 3) := dk_181 0 9 (dk_at dksJ29_rotateRight_1 8 rfl rfl)
theorem dJ29_rotateRight_34 : decode cJ29_rotateRight 34 = .ok (.aload_n 2, 1) := dk_44 (dk_at dksJ29_rotateRight_1 11 rfl rfl)
theorem dJ29_rotateRight_35 : decode cJ29_rotateRight 35 = .ok (.aload_n 1, 1) := dk_43 (dk_at dksJ29_rotateRight_1 12 rfl rfl)
theorem dJ29_rotateRight_36 : decode cJ29_rotateRight 36 = .ok (.getfield 9, 3) := dk_180 0 9 (dk_at dksJ29_rotateRight_1 13 rfl rfl)
theorem dJ29_rotateRight_39 : decode cJ29_rotateRight 39 = .ok (.dup_x1, 1) := dk_90 (dk_at dksJ29_rotateRight_1 16 rfl rfl)
theorem dJ29_rotateRight_40 : decode cJ29_rotateRight 40 = .ok (.putfield 9, 3) := dk_181 0 9 (dk_at dksJ29_rotateRight_1 17 rfl rfl)
theorem dJ29_rotateRight_43 : decode cJ29_rotateRight 43 = .ok (.dup, 1) := dk_89 (dk_at dksJ29_rotateRight_1 20 rfl rfl)
theorem dJ29_rotateRight_44 : decode cJ29_rotateRight 44 = .ok (.astore_n 3, 1) := dk_78 (dk_at dksJ29_rotateRight_1 21 rfl rfl)
theorem dJ29_rotateRight_45 : decode cJ29_rotateRight 45 = .ok (.ifnonnull 13, 3) := dk_199 0 13 (dk_at dksJ29_rotateRight_2 0 rfl rfl)
theorem dJ29_rotateRight_48 : decode cJ29_rotateRight 48 = .ok (.aload_n 2, 1) := dk_44 (dk_at dksJ29_rotateRight_2 3 rfl rfl)
theorem dJ29_rotateRight_49 : decode cJ29_rotateRight 49 = .ok (.dup, 1) := dk_89 (dk_at dksJ29_rotateRight_2 4 rfl rfl)
theorem dJ29_rotateRight_50 : decode cJ29_rotateRight 50 = .ok (.astore_n 0, 1) := dk_75 (dk_at dksJ29_rotateRight_2 5 rfl rfl)
theorem dJ29_rotateRight_51 : decode cJ29_rotateRight 51 = .ok (.iconst 0, 1) := dk_3 (dk_at dksJ29_rotateRight_2 6 rfl rfl)
theorem dJ29_rotateRight_52 : decode cJ29_rotateRight 52 = .ok (.putfield 93, 3) := dk_181 0 93 (dk_at dksJ29_rotateRight_2 7 rfl rfl)
theorem dJ29_rotateRight_55 : decode cJ29_rotateRight 55 = .ok (.goto 24, 3) := dk_167 0 24 (dk_at dksJ29_rotateRight_2 10 rfl rfl)
theorem dJ29_rotateRight_58 : decode cJ29_rotateRight 58 = .ok (.aload_n 3, 1) := dk_45 (dk_at dksJ29_rotateRight_2 13 rfl rfl)
theorem dJ29_rotateRight_59 : decode cJ29_rotateRight 59 = .ok (.getfield 42, 3) := dk_180 0 42 (dk_at dksJ29_rotateRight_2 14 rfl rfl)
theorem dJ29_rotateRight_62 : decode cJ29_rotateRight 62 = .ok (.aload_n 1, 1) := dk_43 (dk_at dksJ29_rotateRight_2 17 rfl rfl)
theorem dJ29_rotateRight_63 : decode cJ29_rotateRight 63 = .ok (.if_acmp .ne 11, 3) := dk_166 0 11 (dk_at dksJ29_rotateRight_2 18 rfl rfl)
theorem dJ29_rotateRight_66 : decode cJ29_rotateRight 66 = .ok (.aload_n 3, 1) := dk_45 (dk_at dksJ29_rotateRight_2 21 rfl rfl)
theorem dJ29_rotateRight_67 : decode cJ29_rotateRight 67 = .ok (.aload_n 2, 1) := dk_44 (dk_at dksJ29_rotateRight_2 22 rfl rfl)
theorem dJ29_rotateRight_68 : decode cJ29_rotateRight 68 = .ok (.putfield 42, 3) := dk_181 0 42 (dk_at dksJ29_rotateRight_3 0 rfl rfl)
theorem dJ29_rotateRight_71 : decode cJ29_rotateRight 71 = .ok (.goto 8, 3) := dk_167 0 8 (dk_at dksJ29_rotateRight_3 3 rfl rfl)
theorem dJ29_rotateRight_74 : decode cJ29_rotateRight 74 = .ok (.aload_n 3, 1) := dk_45 (dk_at dksJ29_rotateRight_3 6 rfl rfl)
theorem dJ29_rotateRight_75 : decode cJ29_rotateRight 75 = .ok (.aload_n 2, 1) := dk_44 (dk_at dksJ29_rotateRight_3 7 rfl rfl)
theorem dJ29_rotateRight_76 : decode cJ29_rotateRight 76 = .ok (.putfield 39, 3) := dk_181 0 39 (dk_at dksJ29_rotateRight_3 8 rfl rfl)
theorem dJ29_rotateRight_79 : decode cJ29_rotateRight 79 = .ok (.aload_n 2, 1) := dk_44 (dk_at dksJ29_rotateRight_3 11 rfl rfl)
theorem dJ29_rotateRight_80 : decode cJ29_rotateRight 80 = .ok (.aload_n 1, 1) := dk_43 (dk_at dksJ29_rotateRight_3 12 rfl rfl)
theorem dJ29_rotateRight_81 : decode cJ29_rotateRight 81 = .ok (.putfield 42, 3) := dk_181 0 42 (dk_at dksJ29_rotateRight_3 13 rfl rfl)
theorem dJ29_rotateRight_84 : decode cJ29_rotateRight 84 = .ok (.aload_n 1, 1) := dk_43 (dk_at dksJ29_rotateRight_3 16 rfl rfl)
theorem dJ29_rotateRight_85 : decode cJ29_rotateRight 85 = .ok (.aload_n 2, 1) := dk_44 (dk_at dksJ29_rotateRight_3 17 rfl rfl)
theorem dJ29_rotateRight_86 : decode cJ29_rotateRight 86 = .ok (.putfield 9, 3) := dk_181 0 9 (dk_at dksJ29_rotateRight_3 18 rfl rfl)
theorem dJ29_rotateRight_89 : decode cJ29_rotateRight 89 = .ok (.aload_n 0, 1) := dk_42 (dk_at dksJ29_rotateRight_3 21 rfl rfl)
theorem dJ29_rotateRight_90 : decode cJ29_rotateRight 90 = .ok (.areturn, 1) := dk_176 (dk_at dksJ29_rotateRight_3 22 rfl rfl)
def wp_J29_rotateRight_B89 (Z : zzG) (K : Option Value → zzM → Prop) (v0 : Option Nat) (M : zzM) : Prop := K (some (va_rf v0)) M
def wp_J29_rotateRight_B79 (Z : zzG) (K : Option Value → zzM → Prop) (v0 : Option Nat) (v1 : Option Nat) (v2 : Option Nat) (M : zzM) : Prop := zput Z M v2 [25] 6 (va_rf v1) fun M11 => zput Z M11 v1 [25] 4 (va_rf v2) fun M12 => wp_J29_rotateRight_B89 Z K v0 M12
def wp_J29_rotateRight_B34 (Z : zzG) (K : Option Value → zzM → Prop) (v0 : Option Nat) (v1 : Option Nat) (v2 : Option Nat) (M : zzM) : Prop := zgA Z M v1 [25] 4 fun x5 => zput Z M v2 [25] 4 (va_rf x5) fun M6 => if x5 = none then (zfit .boolean (0 : Int32) ∧ zput Z M6 v2 [25] 8 (.int (0 : Int32)) fun M10 => wp_J29_rotateRight_B79 Z K v2 v1 v2 M10) else (zgA Z M6 x5 [25] 6 fun x7 => if x7 = v1 then (zput Z M6 x5 [25] 6 (va_rf v2) fun M9 => wp_J29_rotateRight_B79 Z K v0 v1 v2 M9) else (zput Z M6 x5 [25] 5 (va_rf v2) fun M8 => wp_J29_rotateRight_B79 Z K v0 v1 v2 M8))
def wp_J29_rotateRight (Z : zzG) (p0 : Option Nat) (p1 : Option Nat) (M : zzM) (K : Option Value → zzM → Prop) : Prop := if p1 = none then (wp_J29_rotateRight_B89 Z K p0 M) else (zgA Z M p1 [25] 5 fun x1 => if x1 = none then (wp_J29_rotateRight_B89 Z K p0 M) else (zgA Z M x1 [25] 6 fun x2 => zput Z M p1 [25] 5 (va_rf x2) fun M3 => if x2 = none then (wp_J29_rotateRight_B34 Z K p0 p1 x1 M3) else (zput Z M3 x2 [25] 4 (va_rf p1) fun M4 => wp_J29_rotateRight_B34 Z K p0 p1 x1 M4)))
theorem ok_J29_rotateRight_B89 {G : zzX} (C : zz_C G cJ29_rotateRight "java/util/HashMap$TreeNode" 5) {K : Option Value → zzM → Prop} (E : zz_E G (some (.object "java/util/HashMap$TreeNode")) K (fun _ _ _ => False)) (hH : zz_H G []) (hR : zz_Rm G 1) {v0 : Option Nat} {M : zzM} {bc bs : Nat} (hw : wp_J29_rotateRight_B89 (zz_Zof G) K v0 M) : zz_T G 5 M bc bs 89 [(0, va_rf v0)] [] := by
  unfold wp_J29_rotateRight_B89 at hw
  refine zz_aload_n C dJ29_rotateRight_89 rfl 0 rfl ?_
  exact zz_aret C E (Or.inl ⟨_, rfl⟩) dJ29_rotateRight_90 hw
theorem ok_J29_rotateRight_B79 {G : zzX} (C : zz_C G cJ29_rotateRight "java/util/HashMap$TreeNode" 5) {K : Option Value → zzM → Prop} (E : zz_E G (some (.object "java/util/HashMap$TreeNode")) K (fun _ _ _ => False)) (hH : zz_H G []) (hR : zz_Rm G 1) {v0 : Option Nat} {v1 : Option Nat} {v2 : Option Nat} {M : zzM} {bc bs : Nat} (hw : wp_J29_rotateRight_B79 (zz_Zof G) K v0 v1 v2 M) : zz_T G 5 M bc bs 79 [(0, va_rf v0), (1, va_rf v1), (2, va_rf v2)] [] := by
  unfold wp_J29_rotateRight_B79 at hw
  refine zz_aload_n C dJ29_rotateRight_79 rfl 2 rfl ?_
  refine zz_aload_n C dJ29_rotateRight_80 rfl 1 rfl ?_
  refine zz_put C dJ29_rotateRight_81 (Or.inl q1687) zf_25_6_shMap_TreeNode zp_25_6 (zz_hn1 (zz_nA _ rfl v1)) hw (fun M11 hw => ?_)
  refine zz_aload_n C dJ29_rotateRight_84 rfl 1 rfl ?_
  refine zz_aload_n C dJ29_rotateRight_85 rfl 2 rfl ?_
  refine zz_put C dJ29_rotateRight_86 (Or.inl q1685) zf_25_4_shMap_TreeNode zp_25_4 (zz_hn1 (zz_nA _ rfl v2)) hw (fun M12 hw => ?_)
  refine zz_subP [0] rfl ?_
  exact ok_J29_rotateRight_B89 C E hH hR hw
theorem ok_J29_rotateRight_B34 {G : zzX} (C : zz_C G cJ29_rotateRight "java/util/HashMap$TreeNode" 5) {K : Option Value → zzM → Prop} (E : zz_E G (some (.object "java/util/HashMap$TreeNode")) K (fun _ _ _ => False)) (hH : zz_H G []) (hR : zz_Rm G 1) {v0 : Option Nat} {v1 : Option Nat} {v2 : Option Nat} {M : zzM} {bc bs : Nat} (hw : wp_J29_rotateRight_B34 (zz_Zof G) K v0 v1 v2 M) : zz_T G 5 M bc bs 34 [(0, va_rf v0), (1, va_rf v1), (2, va_rf v2)] [] := by
  unfold wp_J29_rotateRight_B34 at hw
  refine zz_aload_n C dJ29_rotateRight_34 rfl 2 rfl ?_
  refine zz_aload_n C dJ29_rotateRight_35 rfl 1 rfl ?_
  refine zz_getA C dJ29_rotateRight_36 (Or.inl q1685) zf_25_4_shMap_TreeNode hw (fun x5 hw => ?_)
  refine zz_dup_x1 C dJ29_rotateRight_39 (zz_cat _) (zz_cat _) ?_
  refine zz_put C dJ29_rotateRight_40 (Or.inl q1685) zf_25_4_shMap_TreeNode zp_25_4 (zz_hn1 (zz_nA _ rfl x5)) hw (fun M6 hw => ?_)
  refine zz_dup C dJ29_rotateRight_43 (zz_cat _) ?_
  refine zz_astore_n (i := 3) (lv' := [(3, va_rf x5), (0, va_rf v0), (1, va_rf v1), (2, va_rf v2)]) C dJ29_rotateRight_44 rfl (by decide) (by simp [zz_cat, zz_catI, zz_catJ, zz_catD]) ?_
  refine zz_ifnonnull (tgt := 58) C dJ29_rotateRight_45 (by decide) hw (fun hw => ?_) (fun hw => ?_)
  · refine zz_aload_n C dJ29_rotateRight_58 rfl 0 rfl ?_
    refine zz_getA C dJ29_rotateRight_59 (Or.inl q1687) zf_25_6_shMap_TreeNode hw (fun x7 hw => ?_)
    refine zz_aload_n C dJ29_rotateRight_62 rfl 2 rfl ?_
    refine zz_acmp_ne (tgt := 74) C dJ29_rotateRight_63 (by decide) hw (fun hw => ?_) (fun hw => ?_)
    · refine zz_aload_n C dJ29_rotateRight_74 rfl 0 rfl ?_
      refine zz_aload_n C dJ29_rotateRight_75 rfl 3 rfl ?_
      refine zz_put C dJ29_rotateRight_76 (Or.inl q1686) zf_25_5_shMap_TreeNode zp_25_5 (zz_hn1 (zz_nA _ rfl v2)) hw (fun M8 hw => ?_)
      refine zz_subP [1, 2, 3] rfl ?_
      exact ok_J29_rotateRight_B79 C E hH hR hw
    · refine zz_aload_n C dJ29_rotateRight_66 rfl 0 rfl ?_
      refine zz_aload_n C dJ29_rotateRight_67 rfl 3 rfl ?_
      refine zz_put C dJ29_rotateRight_68 (Or.inl q1687) zf_25_6_shMap_TreeNode zp_25_6 (zz_hn1 (zz_nA _ rfl v2)) hw (fun M9 hw => ?_)
      refine zz_goto (tgt := 79) C dJ29_rotateRight_71 (by decide) ?_
      refine zz_subP [1, 2, 3] rfl ?_
      exact ok_J29_rotateRight_B79 C E hH hR hw
  · refine zz_aload_n C dJ29_rotateRight_48 rfl 3 rfl ?_
    refine zz_dup C dJ29_rotateRight_49 (zz_cat _) ?_
    refine zz_astore_n (i := 0) (lv' := [(0, va_rf v2), (3, va_rf x5), (1, va_rf v1), (2, va_rf v2)]) C dJ29_rotateRight_50 rfl (by decide) rfl ?_
    refine zz_iconst (v := (0 : Int32)) C dJ29_rotateRight_51 (by decide) ?_
    obtain ⟨hfit, hw⟩ := hw
    refine zz_put C dJ29_rotateRight_52 (Or.inl q1690) zf_25_8_shMap_TreeNode zp_25_8 (zz_hn1 hfit) hw (fun M10 hw => ?_)
    refine zz_goto (tgt := 79) C dJ29_rotateRight_55 (by decide) ?_
    refine zz_subP [0, 2, 3] rfl ?_
    exact ok_J29_rotateRight_B79 C E hH hR hw
theorem ok_J29_rotateRight {Z : zzG} {l : Launch} (hl : l.stackTraces = false) {p0 : Option Nat} {p1 : Option Nat} {M : zzM} {mc ms : Nat} {K : Option Value → zzM → Prop} (hw : wp_J29_rotateRight Z p0 p1 M K) : zz_Met Z l yJ29_rotateRight (zz_ws yJ29_rotateRight cJ29_rotateRight 5 (some (.object "java/util/HashMap$TreeNode")) none) 1 [va_rf p0, va_rf p1] M mc ms K (fun _ _ _ => False) := by
  refine zz_ofW hl (plainFor_of_name (by decide)) (by simp only [zz_sl0, zz_slI, zz_slJ, zz_slA] <;> decide) (fun G hZ hll C E hH hR hin => ?_)
  subst hZ
  subst hll
  rw [show lv_args 0 [va_rf p0, va_rf p1] = [(0, va_rf p0), (1, va_rf p1)] by simp only [zz_la0, zz_laI, zz_laJ, zz_laA]]
  unfold wp_J29_rotateRight at hw
  refine zz_aload_n C dJ29_rotateRight_0 rfl 1 rfl ?_
  refine zz_ifnull (tgt := 89) C dJ29_rotateRight_1 (by decide) hw (fun hw => ?_) (fun hw => ?_)
  · refine zz_subP [0] rfl ?_
    exact ok_J29_rotateRight_B89 C E hH hR hw
  · refine zz_aload_n C dJ29_rotateRight_4 rfl 1 rfl ?_
    refine zz_getA C dJ29_rotateRight_5 (Or.inl q1686) zf_25_5_shMap_TreeNode hw (fun x1 hw => ?_)
    refine zz_dup C dJ29_rotateRight_8 (zz_cat _) ?_
    refine zz_astore_n (i := 2) (lv' := [(2, va_rf x1), (0, va_rf p0), (1, va_rf p1)]) C dJ29_rotateRight_9 rfl (by decide) (by simp [zz_cat, zz_catI, zz_catJ, zz_catD]) ?_
    refine zz_ifnull (tgt := 89) C dJ29_rotateRight_10 (by decide) hw (fun hw => ?_) (fun hw => ?_)
    · refine zz_subP [1] rfl ?_
      exact ok_J29_rotateRight_B89 C E hH hR hw
    · refine zz_aload_n C dJ29_rotateRight_13 rfl 2 rfl ?_
      refine zz_aload_n C dJ29_rotateRight_14 rfl 0 rfl ?_
      refine zz_getA C dJ29_rotateRight_15 (Or.inl q1687) zf_25_6_shMap_TreeNode hw (fun x2 hw => ?_)
      refine zz_dup_x1 C dJ29_rotateRight_18 (zz_cat _) (zz_cat _) ?_
      refine zz_put C dJ29_rotateRight_19 (Or.inl q1686) zf_25_5_shMap_TreeNode zp_25_5 (zz_hn1 (zz_nA _ rfl x2)) hw (fun M3 hw => ?_)
      refine zz_dup C dJ29_rotateRight_22 (zz_cat _) ?_
      refine zz_astore (lv' := [(4, va_rf x2), (2, va_rf x1), (0, va_rf p0), (1, va_rf p1)]) C dJ29_rotateRight_23 (by decide) rfl ?_
      refine zz_ifnull (tgt := 34) C dJ29_rotateRight_25 (by decide) hw (fun hw => ?_) (fun hw => ?_)
      · refine zz_subP [2, 3, 1] rfl ?_
        exact ok_J29_rotateRight_B34 C E hH hR hw
      · refine zz_aload C dJ29_rotateRight_28 0 rfl ?_
        refine zz_aload_n C dJ29_rotateRight_30 rfl 3 rfl ?_
        refine zz_put C dJ29_rotateRight_31 (Or.inl q1685) zf_25_4_shMap_TreeNode zp_25_4 (zz_hn1 (zz_nA _ rfl p1)) hw (fun M4 hw => ?_)
        refine zz_subP [2, 3, 1] rfl ?_
        exact ok_J29_rotateRight_B34 C E hH hR hw
abbrev cJ29_balanceInsertion : ByteArray := prog_65_method_14_code
def yJ29_balanceInsertion : MethodName := ⟨"java/util/HashMap$TreeNode", "balanceInsertion", "(Ljava/util/HashMap$TreeNode;Ljava/util/HashMap$TreeNode;)Ljava/util/HashMap$TreeNode;"⟩
def dkwJ29_balanceInsertion_10 : List UInt8 := [198, 255, 33, 45, 4, 181, 0, 93, 42, 45, 184, 0, 130, 75, 167, 255, 19]
abbrev dktJ29_balanceInsertion_10 : List UInt8 := dkwJ29_balanceInsertion_10 ++ []
def dkwJ29_balanceInsertion_9 : List UInt8 := [199, 0, 7, 1, 167, 0, 7, 44, 180, 0, 9, 78, 44, 198, 255, 42, 44, 3, 181, 0, 93, 45]
abbrev dktJ29_balanceInsertion_9 : List UInt8 := dkwJ29_balanceInsertion_9 ++ dktJ29_balanceInsertion_10
def dkwJ29_balanceInsertion_8 : List UInt8 := [43, 44, 180, 0, 39, 166, 0, 29, 42, 44, 89, 76, 184, 0, 133, 75, 43, 180, 0, 9, 89, 77]
abbrev dktJ29_balanceInsertion_8 : List UInt8 := dkwJ29_balanceInsertion_8 ++ dktJ29_balanceInsertion_9
def dkwJ29_balanceInsertion_7 : List UInt8 := [153, 0, 24, 25, 4, 3, 181, 0, 93, 44, 3, 181, 0, 93, 45, 4, 181, 0, 93, 45, 76, 167, 255, 80]
abbrev dktJ29_balanceInsertion_7 : List UInt8 := dkwJ29_balanceInsertion_7 ++ dktJ29_balanceInsertion_8
def dkwJ29_balanceInsertion_6 : List UInt8 := [181, 0, 93, 42, 45, 184, 0, 133, 75, 167, 255, 114, 25, 4, 198, 0, 32, 25, 4, 180, 0, 93]
abbrev dktJ29_balanceInsertion_6 : List UInt8 := dkwJ29_balanceInsertion_6 ++ dktJ29_balanceInsertion_7
def dkwJ29_balanceInsertion_5 : List UInt8 := [167, 0, 7, 44, 180, 0, 9, 78, 44, 198, 255, 137, 44, 3, 181, 0, 93, 45, 198, 255, 128, 45, 4]
abbrev dktJ29_balanceInsertion_5 : List UInt8 := dkwJ29_balanceInsertion_5 ++ dktJ29_balanceInsertion_6
def dkwJ29_balanceInsertion_4 : List UInt8 := [180, 0, 42, 166, 0, 29, 42, 44, 89, 76, 184, 0, 130, 75, 43, 180, 0, 9, 89, 77, 199, 0, 7, 1]
abbrev dktJ29_balanceInsertion_4 : List UInt8 := dkwJ29_balanceInsertion_4 ++ dktJ29_balanceInsertion_5
def dkwJ29_balanceInsertion_3 : List UInt8 := [25, 5, 3, 181, 0, 93, 44, 3, 181, 0, 93, 45, 4, 181, 0, 93, 45, 76, 167, 255, 175, 43, 44]
abbrev dktJ29_balanceInsertion_3 : List UInt8 := dkwJ29_balanceInsertion_3 ++ dktJ29_balanceInsertion_4
def dkwJ29_balanceInsertion_2 : List UInt8 := [58, 4, 166, 0, 103, 45, 180, 0, 42, 89, 58, 5, 198, 0, 32, 25, 5, 180, 0, 93, 153, 0, 24]
abbrev dktJ29_balanceInsertion_2 : List UInt8 := dkwJ29_balanceInsertion_2 ++ dktJ29_balanceInsertion_3
def dkwJ29_balanceInsertion_1 : List UInt8 := [180, 0, 93, 153, 0, 12, 44, 180, 0, 9, 89, 78, 199, 0, 5, 42, 176, 44, 45, 180, 0, 39, 89]
abbrev dktJ29_balanceInsertion_1 : List UInt8 := dkwJ29_balanceInsertion_1 ++ dktJ29_balanceInsertion_2
def dkwJ29_balanceInsertion_0 : List UInt8 := [43, 4, 181, 0, 93, 43, 180, 0, 9, 89, 77, 199, 0, 10, 43, 3, 181, 0, 93, 43, 176, 44]
abbrev dktJ29_balanceInsertion_0 : List UInt8 := dkwJ29_balanceInsertion_0 ++ dktJ29_balanceInsertion_1
theorem dksJ29_balanceInsertion_0 : cJ29_balanceInsertion.data.toList.drop 0 = dktJ29_balanceInsertion_0 := by decide +kernel
theorem dksJ29_balanceInsertion_1 : cJ29_balanceInsertion.data.toList.drop 22 = dktJ29_balanceInsertion_1 := dk_seg dksJ29_balanceInsertion_0 22 rfl rfl
theorem dksJ29_balanceInsertion_2 : cJ29_balanceInsertion.data.toList.drop 45 = dktJ29_balanceInsertion_2 := dk_seg dksJ29_balanceInsertion_1 23 rfl rfl
theorem dksJ29_balanceInsertion_3 : cJ29_balanceInsertion.data.toList.drop 68 = dktJ29_balanceInsertion_3 := dk_seg dksJ29_balanceInsertion_2 23 rfl rfl
theorem dksJ29_balanceInsertion_4 : cJ29_balanceInsertion.data.toList.drop 91 = dktJ29_balanceInsertion_4 := dk_seg dksJ29_balanceInsertion_3 23 rfl rfl
theorem dksJ29_balanceInsertion_5 : cJ29_balanceInsertion.data.toList.drop 115 = dktJ29_balanceInsertion_5 := dk_seg dksJ29_balanceInsertion_4 24 rfl rfl
theorem dksJ29_balanceInsertion_6 : cJ29_balanceInsertion.data.toList.drop 138 = dktJ29_balanceInsertion_6 := dk_seg dksJ29_balanceInsertion_5 23 rfl rfl
theorem dksJ29_balanceInsertion_7 : cJ29_balanceInsertion.data.toList.drop 160 = dktJ29_balanceInsertion_7 := dk_seg dksJ29_balanceInsertion_6 22 rfl rfl
theorem dksJ29_balanceInsertion_8 : cJ29_balanceInsertion.data.toList.drop 184 = dktJ29_balanceInsertion_8 := dk_seg dksJ29_balanceInsertion_7 24 rfl rfl
theorem dksJ29_balanceInsertion_9 : cJ29_balanceInsertion.data.toList.drop 206 = dktJ29_balanceInsertion_9 := dk_seg dksJ29_balanceInsertion_8 22 rfl rfl
theorem dksJ29_balanceInsertion_10 : cJ29_balanceInsertion.data.toList.drop 228 = dktJ29_balanceInsertion_10 := dk_seg dksJ29_balanceInsertion_9 22 rfl rfl
theorem dJ29_balanceInsertion_0 : decode cJ29_balanceInsertion 0 = .ok (.aload_n 1, 1) := dk_43 (dk_at dksJ29_balanceInsertion_0 0 rfl rfl)
theorem dJ29_balanceInsertion_1 : decode cJ29_balanceInsertion 1 = .ok (.iconst 1, 1) := dk_4 (dk_at dksJ29_balanceInsertion_0 1 rfl rfl)
theorem dJ29_balanceInsertion_2 : decode cJ29_balanceInsertion 2 = .ok (.putfield 93, 3) := dk_181 0 93 (dk_at dksJ29_balanceInsertion_0 2 rfl rfl)
theorem dJ29_balanceInsertion_5 : decode cJ29_balanceInsertion 5 = .ok (.aload_n 1, 1) := dk_43 (dk_at dksJ29_balanceInsertion_0 5 rfl rfl)
theorem dJ29_balanceInsertion_6 : decode cJ29_balanceInsertion 6 = .ok (.getfield 9, 3) := dk_180 0 9 (dk_at dksJ29_balanceInsertion_0 6 rfl rfl)
theorem dJ29_balanceInsertion_9 : decode cJ29_balanceInsertion 9 = .ok (.dup, 1) := dk_89 (dk_at dksJ29_balanceInsertion_0 9 rfl rfl)
theorem dJ29_balanceInsertion_10 : decode cJ29_balanceInsertion 10 = .ok (.astore_n 2, 1) := dk_77 (dk_at dksJ29_balanceInsertion_0 10 rfl rfl)
theorem dJ29_balanceInsertion_11 : decode cJ29_balanceInsertion 11 = .ok (.ifnonnull 10, 3) := dk_199 0 10 (dk_at dksJ29_balanceInsertion_0 11 rfl rfl)
theorem dJ29_balanceInsertion_14 : decode cJ29_balanceInsertion 14 = .ok (.aload_n 1, 1) := dk_43 (dk_at dksJ29_balanceInsertion_0 14 rfl rfl)
theorem dJ29_balanceInsertion_15 : decode cJ29_balanceInsertion 15 = .ok (.iconst 0, 1) := dk_3 (dk_at dksJ29_balanceInsertion_0 15 rfl rfl)
theorem dJ29_balanceInsertion_16 : decode cJ29_balanceInsertion 16 = .ok (.putfield 93, 3) := dk_181 0 93 (dk_at dksJ29_balanceInsertion_0 16 rfl rfl)
theorem dJ29_balanceInsertion_19 : decode cJ29_balanceInsertion 19 = .ok (.aload_n 1, 1) := dk_43 (dk_at dksJ29_balanceInsertion_0 19 rfl rfl)
theorem dJ29_balanceInsertion_20 : decode cJ29_balanceInsertion 20 = .ok (.areturn, 1) := dk_176 (dk_at dksJ29_balanceInsertion_0 20 rfl rfl)
theorem dJ29_balanceInsertion_21 : decode cJ29_balanceInsertion 21 = .ok (.aload_n 2, 1) := dk_44 (dk_at dksJ29_balanceInsertion_0 21 rfl rfl)
theorem dJ29_balanceInsertion_22 : decode cJ29_balanceInsertion 22 = .ok (.getfield 93, 3) := dk_180 0 93 (dk_at dksJ29_balanceInsertion_1 0 rfl rfl)
theorem dJ29_balanceInsertion_25 : decode cJ29_balanceInsertion 25 = .ok (.ifCond .eq 12, 3) := dk_153 0 12 (dk_at dksJ29_balanceInsertion_1 3 rfl rfl)
theorem dJ29_balanceInsertion_28 : decode cJ29_balanceInsertion 28 = .ok (.aload_n 2, 1) := dk_44 (dk_at dksJ29_balanceInsertion_1 6 rfl rfl)
theorem dJ29_balanceInsertion_29 : decode cJ29_balanceInsertion 29 = .ok (.getfield 9, 3) := dk_180 0 9 (dk_at dksJ29_balanceInsertion_1 7 rfl rfl)
theorem dJ29_balanceInsertion_32 : decode cJ29_balanceInsertion 32 = .ok (.dup, 1) := dk_89 (dk_at dksJ29_balanceInsertion_1 10 rfl rfl)
theorem dJ29_balanceInsertion_33 : decode cJ29_balanceInsertion 33 = .ok (.astore_n 3, 1) := dk_78 (dk_at dksJ29_balanceInsertion_1 11 rfl rfl)
theorem dJ29_balanceInsertion_34 : decode cJ29_balanceInsertion 34 = .ok (.ifnonnull 5, 3) := dk_199 0 5 (dk_at dksJ29_balanceInsertion_1 12 rfl rfl)
theorem dJ29_balanceInsertion_37 : decode cJ29_balanceInsertion 37 = .ok (.aload_n 0, 1) := dk_42 (dk_at dksJ29_balanceInsertion_1 15 rfl rfl)
theorem dJ29_balanceInsertion_38 : decode cJ29_balanceInsertion 38 = .ok (.areturn, 1) := dk_176 (dk_at dksJ29_balanceInsertion_1 16 rfl rfl)
theorem dJ29_balanceInsertion_39 : decode cJ29_balanceInsertion 39 = .ok (.aload_n 2, 1) := dk_44 (dk_at dksJ29_balanceInsertion_1 17 rfl rfl)
theorem dJ29_balanceInsertion_40 : decode cJ29_balanceInsertion 40 = .ok (.aload_n 3, 1) := dk_45 (dk_at dksJ29_balanceInsertion_1 18 rfl rfl)
theorem dJ29_balanceInsertion_41 : decode cJ29_balanceInsertion 41 = .ok (.getfield 39, 3) := dk_180 0 39 (dk_at dksJ29_balanceInsertion_1 19 rfl rfl)
theorem dJ29_balanceInsertion_44 : decode cJ29_balanceInsertion 44 = .ok (.dup, 1) := dk_89 (dk_at dksJ29_balanceInsertion_1 22 rfl rfl)
theorem dJ29_balanceInsertion_45 : decode cJ29_balanceInsertion 45 = .ok (.astore 4, 2) := dk_58 4 (dk_at dksJ29_balanceInsertion_2 0 rfl rfl)
theorem dJ29_balanceInsertion_47 : decode cJ29_balanceInsertion 47 = .ok (.if_acmp .ne 103, 3) := dk_166 0 103 (dk_at dksJ29_balanceInsertion_2 2 rfl rfl)
theorem dJ29_balanceInsertion_50 : decode cJ29_balanceInsertion 50 = .ok (.aload_n 3, 1) := dk_45 (dk_at dksJ29_balanceInsertion_2 5 rfl rfl)
theorem dJ29_balanceInsertion_51 : decode cJ29_balanceInsertion 51 = .ok (.getfield 42, 3) := dk_180 0 42 (dk_at dksJ29_balanceInsertion_2 6 rfl rfl)
theorem dJ29_balanceInsertion_54 : decode cJ29_balanceInsertion 54 = .ok (.dup, 1) := dk_89 (dk_at dksJ29_balanceInsertion_2 9 rfl rfl)
theorem dJ29_balanceInsertion_55 : decode cJ29_balanceInsertion 55 = .ok (.astore 5, 2) := dk_58 5 (dk_at dksJ29_balanceInsertion_2 10 rfl rfl)
theorem dJ29_balanceInsertion_57 : decode cJ29_balanceInsertion 57 = .ok (.ifnull 32, 3) := dk_198 0 32 (dk_at dksJ29_balanceInsertion_2 12 rfl rfl)
theorem dJ29_balanceInsertion_60 : decode cJ29_balanceInsertion 60 = .ok (.aload 5, 2) := dk_25 5 (dk_at dksJ29_balanceInsertion_2 15 rfl rfl)
theorem dJ29_balanceInsertion_62 : decode cJ29_balanceInsertion 62 = .ok (.getfield 93, 3) := dk_180 0 93 (dk_at dksJ29_balanceInsertion_2 17 rfl rfl)
theorem dJ29_balanceInsertion_65 : decode cJ29_balanceInsertion 65 = .ok (.ifCond .eq 24, 3) := dk_153 0 24 (dk_at dksJ29_balanceInsertion_2 20 rfl rfl)
theorem dJ29_balanceInsertion_68 : decode cJ29_balanceInsertion 68 = .ok (.aload 5, 2) := dk_25 5 (dk_at dksJ29_balanceInsertion_3 0 rfl rfl)
theorem dJ29_balanceInsertion_70 : decode cJ29_balanceInsertion 70 = .ok (.iconst 0, 1) := dk_3 (dk_at dksJ29_balanceInsertion_3 2 rfl rfl)
theorem dJ29_balanceInsertion_71 : decode cJ29_balanceInsertion 71 = .ok (.putfield 93, 3) := dk_181 0 93 (dk_at dksJ29_balanceInsertion_3 3 rfl rfl)
theorem dJ29_balanceInsertion_74 : decode cJ29_balanceInsertion 74 = .ok (.aload_n 2, 1) := dk_44 (dk_at dksJ29_balanceInsertion_3 6 rfl rfl)
theorem dJ29_balanceInsertion_75 : decode cJ29_balanceInsertion 75 = .ok (.iconst 0, 1) := dk_3 (dk_at dksJ29_balanceInsertion_3 7 rfl rfl)
theorem dJ29_balanceInsertion_76 : decode cJ29_balanceInsertion 76 = .ok (.putfield 93, 3) := dk_181 0 93 (dk_at dksJ29_balanceInsertion_3 8 rfl rfl)
theorem dJ29_balanceInsertion_79 : decode cJ29_balanceInsertion 79 = .ok (.aload_n 3, 1) := dk_45 (dk_at dksJ29_balanceInsertion_3 11 rfl rfl)
theorem dJ29_balanceInsertion_80 : decode cJ29_balanceInsertion 80 = .ok (.iconst 1, 1) := dk_4 (dk_at dksJ29_balanceInsertion_3 12 rfl rfl)
theorem dJ29_balanceInsertion_81 : decode cJ29_balanceInsertion 81 = .ok (.putfield 93, 3) := dk_181 0 93 (dk_at dksJ29_balanceInsertion_3 13 rfl rfl)
theorem dJ29_balanceInsertion_84 : decode cJ29_balanceInsertion 84 = .ok (.aload_n 3, 1) := dk_45 (dk_at dksJ29_balanceInsertion_3 16 rfl rfl)
theorem dJ29_balanceInsertion_85 : decode cJ29_balanceInsertion 85 = .ok (.astore_n 1, 1) := dk_76 (dk_at dksJ29_balanceInsertion_3 17 rfl rfl)
theorem dJ29_balanceInsertion_86 : decode cJ29_balanceInsertion 86 = .ok (.goto (-81), 3) := dk_167 255 175 (dk_at dksJ29_balanceInsertion_3 18 rfl rfl)
theorem dJ29_balanceInsertion_89 : decode cJ29_balanceInsertion 89 = .ok (.aload_n 1, 1) := dk_43 (dk_at dksJ29_balanceInsertion_3 21 rfl rfl)
theorem dJ29_balanceInsertion_90 : decode cJ29_balanceInsertion 90 = .ok (.aload_n 2, 1) := dk_44 (dk_at dksJ29_balanceInsertion_3 22 rfl rfl)
theorem dJ29_balanceInsertion_91 : decode cJ29_balanceInsertion 91 = .ok (.getfield 42, 3) := dk_180 0 42 (dk_at dksJ29_balanceInsertion_4 0 rfl rfl)
theorem dJ29_balanceInsertion_94 : decode cJ29_balanceInsertion 94 = .ok (.if_acmp .ne 29, 3) := dk_166 0 29 (dk_at dksJ29_balanceInsertion_4 3 rfl rfl)
theorem dJ29_balanceInsertion_97 : decode cJ29_balanceInsertion 97 = .ok (.aload_n 0, 1) := dk_42 (dk_at dksJ29_balanceInsertion_4 6 rfl rfl)
theorem dJ29_balanceInsertion_98 : decode cJ29_balanceInsertion 98 = .ok (.aload_n 2, 1) := dk_44 (dk_at dksJ29_balanceInsertion_4 7 rfl rfl)
theorem dJ29_balanceInsertion_99 : decode cJ29_balanceInsertion 99 = .ok (.dup, 1) := dk_89 (dk_at dksJ29_balanceInsertion_4 8 rfl rfl)
theorem dJ29_balanceInsertion_100 : decode cJ29_balanceInsertion 100 = .ok (.astore_n 1, 1) := dk_76 (dk_at dksJ29_balanceInsertion_4 9 rfl rfl)
theorem dJ29_balanceInsertion_101 : decode cJ29_balanceInsertion 101 = .ok (.invokestatic 130, 3) := dk_184 0 130 (dk_at dksJ29_balanceInsertion_4 10 rfl rfl)
theorem dJ29_balanceInsertion_104 : decode cJ29_balanceInsertion 104 = .ok (.astore_n 0, 1) := dk_75 (dk_at dksJ29_balanceInsertion_4 13 rfl rfl)
theorem dJ29_balanceInsertion_105 : decode cJ29_balanceInsertion 105 = .ok (.aload_n 1, 1) := dk_43 (dk_at dksJ29_balanceInsertion_4 14 rfl rfl)
theorem dJ29_balanceInsertion_106 : decode cJ29_balanceInsertion 106 = .ok (.getfield 9, 3) := dk_180 0 9 (dk_at dksJ29_balanceInsertion_4 15 rfl rfl)
theorem dJ29_balanceInsertion_109 : decode cJ29_balanceInsertion 109 = .ok (.dup, 1) := dk_89 (dk_at dksJ29_balanceInsertion_4 18 rfl rfl)
theorem dJ29_balanceInsertion_110 : decode cJ29_balanceInsertion 110 = .ok (.astore_n 2, 1) := dk_77 (dk_at dksJ29_balanceInsertion_4 19 rfl rfl)
theorem dJ29_balanceInsertion_111 : decode cJ29_balanceInsertion 111 = .ok (.ifnonnull 7, 3) := dk_199 0 7 (dk_at dksJ29_balanceInsertion_4 20 rfl rfl)
theorem dJ29_balanceInsertion_114 : decode cJ29_balanceInsertion 114 = .ok (.aconst_null, 1) := dk_1 (dk_at dksJ29_balanceInsertion_4 23 rfl rfl)
theorem dJ29_balanceInsertion_115 : decode cJ29_balanceInsertion 115 = .ok (.goto 7, 3) := dk_167 0 7 (dk_at dksJ29_balanceInsertion_5 0 rfl rfl)
theorem dJ29_balanceInsertion_118 : decode cJ29_balanceInsertion 118 = .ok (.aload_n 2, 1) := dk_44 (dk_at dksJ29_balanceInsertion_5 3 rfl rfl)
theorem dJ29_balanceInsertion_119 : decode cJ29_balanceInsertion 119 = .ok (.getfield 9, 3) := dk_180 0 9 (dk_at dksJ29_balanceInsertion_5 4 rfl rfl)
theorem dJ29_balanceInsertion_122 : decode cJ29_balanceInsertion 122 = .ok (.astore_n 3, 1) := dk_78 (dk_at dksJ29_balanceInsertion_5 7 rfl rfl)
theorem dJ29_balanceInsertion_123 : decode cJ29_balanceInsertion 123 = .ok (.aload_n 2, 1) := dk_44 (dk_at dksJ29_balanceInsertion_5 8 rfl rfl)
theorem dJ29_balanceInsertion_124 : decode cJ29_balanceInsertion 124 = .ok (.ifnull (-119), 3) := dk_198 255 137 (dk_at dksJ29_balanceInsertion_5 9 rfl rfl)
theorem dJ29_balanceInsertion_127 : decode cJ29_balanceInsertion 127 = .ok (.aload_n 2, 1) := dk_44 (dk_at dksJ29_balanceInsertion_5 12 rfl rfl)
theorem dJ29_balanceInsertion_128 : decode cJ29_balanceInsertion 128 = .ok (.iconst 0, 1) := dk_3 (dk_at dksJ29_balanceInsertion_5 13 rfl rfl)
theorem dJ29_balanceInsertion_129 : decode cJ29_balanceInsertion 129 = .ok (.putfield 93, 3) := dk_181 0 93 (dk_at dksJ29_balanceInsertion_5 14 rfl rfl)
theorem dJ29_balanceInsertion_132 : decode cJ29_balanceInsertion 132 = .ok (.aload_n 3, 1) := dk_45 (dk_at dksJ29_balanceInsertion_5 17 rfl rfl)
theorem dJ29_balanceInsertion_133 : decode cJ29_balanceInsertion 133 = .ok (.ifnull (-128), 3) := dk_198 255 128 (dk_at dksJ29_balanceInsertion_5 18 rfl rfl)
theorem dJ29_balanceInsertion_136 : decode cJ29_balanceInsertion 136 = .ok (.aload_n 3, 1) := dk_45 (dk_at dksJ29_balanceInsertion_5 21 rfl rfl)
theorem dJ29_balanceInsertion_137 : decode cJ29_balanceInsertion 137 = .ok (.iconst 1, 1) := dk_4 (dk_at dksJ29_balanceInsertion_5 22 rfl rfl)
theorem dJ29_balanceInsertion_138 : decode cJ29_balanceInsertion 138 = .ok (.putfield 93, 3) := dk_181 0 93 (dk_at dksJ29_balanceInsertion_6 0 rfl rfl)
theorem dJ29_balanceInsertion_141 : decode cJ29_balanceInsertion 141 = .ok (.aload_n 0, 1) := dk_42 (dk_at dksJ29_balanceInsertion_6 3 rfl rfl)
theorem dJ29_balanceInsertion_142 : decode cJ29_balanceInsertion 142 = .ok (.aload_n 3, 1) := dk_45 (dk_at dksJ29_balanceInsertion_6 4 rfl rfl)
theorem dJ29_balanceInsertion_143 : decode cJ29_balanceInsertion 143 = .ok (.invokestatic 133, 3) := dk_184 0 133 (dk_at dksJ29_balanceInsertion_6 5 rfl rfl)
theorem dJ29_balanceInsertion_146 : decode cJ29_balanceInsertion 146 = .ok (.astore_n 0, 1) := dk_75 (dk_at dksJ29_balanceInsertion_6 8 rfl rfl)
theorem dJ29_balanceInsertion_147 : decode cJ29_balanceInsertion 147 = .ok (.goto (-142), 3) := dk_167 255 114 (dk_at dksJ29_balanceInsertion_6 9 rfl rfl)
theorem dJ29_balanceInsertion_150 : decode cJ29_balanceInsertion 150 = .ok (.aload 4, 2) := dk_25 4 (dk_at dksJ29_balanceInsertion_6 12 rfl rfl)
theorem dJ29_balanceInsertion_152 : decode cJ29_balanceInsertion 152 = .ok (.ifnull 32, 3) := dk_198 0 32 (dk_at dksJ29_balanceInsertion_6 14 rfl rfl)
theorem dJ29_balanceInsertion_155 : decode cJ29_balanceInsertion 155 = .ok (.aload 4, 2) := dk_25 4 (dk_at dksJ29_balanceInsertion_6 17 rfl rfl)
theorem dJ29_balanceInsertion_157 : decode cJ29_balanceInsertion 157 = .ok (.getfield 93, 3) := dk_180 0 93 (dk_at dksJ29_balanceInsertion_6 19 rfl rfl)
theorem dJ29_balanceInsertion_160 : decode cJ29_balanceInsertion 160 = .ok (.ifCond .eq 24, 3) := dk_153 0 24 (dk_at dksJ29_balanceInsertion_7 0 rfl rfl)
theorem dJ29_balanceInsertion_163 : decode cJ29_balanceInsertion 163 = .ok (.aload 4, 2) := dk_25 4 (dk_at dksJ29_balanceInsertion_7 3 rfl rfl)
theorem dJ29_balanceInsertion_165 : decode cJ29_balanceInsertion 165 = .ok (.iconst 0, 1) := dk_3 (dk_at dksJ29_balanceInsertion_7 5 rfl rfl)
theorem dJ29_balanceInsertion_166 : decode cJ29_balanceInsertion 166 = .ok (.putfield 93, 3) := dk_181 0 93 (dk_at dksJ29_balanceInsertion_7 6 rfl rfl)
theorem dJ29_balanceInsertion_169 : decode cJ29_balanceInsertion 169 = .ok (.aload_n 2, 1) := dk_44 (dk_at dksJ29_balanceInsertion_7 9 rfl rfl)
theorem dJ29_balanceInsertion_170 : decode cJ29_balanceInsertion 170 = .ok (.iconst 0, 1) := dk_3 (dk_at dksJ29_balanceInsertion_7 10 rfl rfl)
theorem dJ29_balanceInsertion_171 : decode cJ29_balanceInsertion 171 = .ok (.putfield 93, 3) := dk_181 0 93 (dk_at dksJ29_balanceInsertion_7 11 rfl rfl)
theorem dJ29_balanceInsertion_174 : decode cJ29_balanceInsertion 174 = .ok (.aload_n 3, 1) := dk_45 (dk_at dksJ29_balanceInsertion_7 14 rfl rfl)
theorem dJ29_balanceInsertion_175 : decode cJ29_balanceInsertion 175 = .ok (.iconst 1, 1) := dk_4 (dk_at dksJ29_balanceInsertion_7 15 rfl rfl)
theorem dJ29_balanceInsertion_176 : decode cJ29_balanceInsertion 176 = .ok (.putfield 93, 3) := dk_181 0 93 (dk_at dksJ29_balanceInsertion_7 16 rfl rfl)
theorem dJ29_balanceInsertion_179 : decode cJ29_balanceInsertion 179 = .ok (.aload_n 3, 1) := dk_45 (dk_at dksJ29_balanceInsertion_7 19 rfl rfl)
theorem dJ29_balanceInsertion_180 : decode cJ29_balanceInsertion 180 = .ok (.astore_n 1, 1) := dk_76 (dk_at dksJ29_balanceInsertion_7 20 rfl rfl)
theorem dJ29_balanceInsertion_181 : decode cJ29_balanceInsertion 181 = .ok (.goto (-176), 3) := dk_167 255 80 (dk_at dksJ29_balanceInsertion_7 21 rfl rfl)
theorem dJ29_balanceInsertion_184 : decode cJ29_balanceInsertion 184 = .ok (.aload_n 1, 1) := dk_43 (dk_at dksJ29_balanceInsertion_8 0 rfl rfl)
theorem dJ29_balanceInsertion_185 : decode cJ29_balanceInsertion 185 = .ok (.aload_n 2, 1) := dk_44 (dk_at dksJ29_balanceInsertion_8 1 rfl rfl)
theorem dJ29_balanceInsertion_186 : decode cJ29_balanceInsertion 186 = .ok (.getfield 39, 3) := dk_180 0 39 (dk_at dksJ29_balanceInsertion_8 2 rfl rfl)
theorem dJ29_balanceInsertion_189 : decode cJ29_balanceInsertion 189 = .ok (.if_acmp .ne 29, 3) := dk_166 0 29 (dk_at dksJ29_balanceInsertion_8 5 rfl rfl)
theorem dJ29_balanceInsertion_192 : decode cJ29_balanceInsertion 192 = .ok (.aload_n 0, 1) := dk_42 (dk_at dksJ29_balanceInsertion_8 8 rfl rfl)
theorem dJ29_balanceInsertion_193 : decode cJ29_balanceInsertion 193 = .ok (.aload_n 2, 1) := dk_44 (dk_at dksJ29_balanceInsertion_8 9 rfl rfl)
theorem dJ29_balanceInsertion_194 : decode cJ29_balanceInsertion 194 = .ok (.dup, 1) := dk_89 (dk_at dksJ29_balanceInsertion_8 10 rfl rfl)
theorem dJ29_balanceInsertion_195 : decode cJ29_balanceInsertion 195 = .ok (.astore_n 1, 1) := dk_76 (dk_at dksJ29_balanceInsertion_8 11 rfl rfl)
theorem dJ29_balanceInsertion_196 : decode cJ29_balanceInsertion 196 = .ok (.invokestatic 133, 3) := dk_184 0 133 (dk_at dksJ29_balanceInsertion_8 12 rfl rfl)
theorem dJ29_balanceInsertion_199 : decode cJ29_balanceInsertion 199 = .ok (.astore_n 0, 1) := dk_75 (dk_at dksJ29_balanceInsertion_8 15 rfl rfl)
theorem dJ29_balanceInsertion_200 : decode cJ29_balanceInsertion 200 = .ok (.aload_n 1, 1) := dk_43 (dk_at dksJ29_balanceInsertion_8 16 rfl rfl)
theorem dJ29_balanceInsertion_201 : decode cJ29_balanceInsertion 201 = .ok (.getfield 9, 3) := dk_180 0 9 (dk_at dksJ29_balanceInsertion_8 17 rfl rfl)
theorem dJ29_balanceInsertion_204 : decode cJ29_balanceInsertion 204 = .ok (.dup, 1) := dk_89 (dk_at dksJ29_balanceInsertion_8 20 rfl rfl)
theorem dJ29_balanceInsertion_205 : decode cJ29_balanceInsertion 205 = .ok (.astore_n 2, 1) := dk_77 (dk_at dksJ29_balanceInsertion_8 21 rfl rfl)
theorem dJ29_balanceInsertion_206 : decode cJ29_balanceInsertion 206 = .ok (.ifnonnull 7, 3) := dk_199 0 7 (dk_at dksJ29_balanceInsertion_9 0 rfl rfl)
theorem dJ29_balanceInsertion_209 : decode cJ29_balanceInsertion 209 = .ok (.aconst_null, 1) := dk_1 (dk_at dksJ29_balanceInsertion_9 3 rfl rfl)
theorem dJ29_balanceInsertion_210 : decode cJ29_balanceInsertion 210 = .ok (.goto 7, 3) := dk_167 0 7 (dk_at dksJ29_balanceInsertion_9 4 rfl rfl)
theorem dJ29_balanceInsertion_213 : decode cJ29_balanceInsertion 213 = .ok (.aload_n 2, 1) := dk_44 (dk_at dksJ29_balanceInsertion_9 7 rfl rfl)
theorem dJ29_balanceInsertion_214 : decode cJ29_balanceInsertion 214 = .ok (.getfield 9, 3) := dk_180 0 9 (dk_at dksJ29_balanceInsertion_9 8 rfl rfl)
theorem dJ29_balanceInsertion_217 : decode cJ29_balanceInsertion 217 = .ok (.astore_n 3, 1) := dk_78 (dk_at dksJ29_balanceInsertion_9 11 rfl rfl)
theorem dJ29_balanceInsertion_218 : decode cJ29_balanceInsertion 218 = .ok (.aload_n 2, 1) := dk_44 (dk_at dksJ29_balanceInsertion_9 12 rfl rfl)
theorem dJ29_balanceInsertion_219 : decode cJ29_balanceInsertion 219 = .ok (.ifnull (-214), 3) := dk_198 255 42 (dk_at dksJ29_balanceInsertion_9 13 rfl rfl)
theorem dJ29_balanceInsertion_222 : decode cJ29_balanceInsertion 222 = .ok (.aload_n 2, 1) := dk_44 (dk_at dksJ29_balanceInsertion_9 16 rfl rfl)
theorem dJ29_balanceInsertion_223 : decode cJ29_balanceInsertion 223 = .ok (.iconst 0, 1) := dk_3 (dk_at dksJ29_balanceInsertion_9 17 rfl rfl)
theorem dJ29_balanceInsertion_224 : decode cJ29_balanceInsertion 224 = .ok (.putfield 93, 3) := dk_181 0 93 (dk_at dksJ29_balanceInsertion_9 18 rfl rfl)
theorem dJ29_balanceInsertion_227 : decode cJ29_balanceInsertion 227 = .ok (.aload_n 3, 1) := dk_45 (dk_at dksJ29_balanceInsertion_9 21 rfl rfl)
theorem dJ29_balanceInsertion_228 : decode cJ29_balanceInsertion 228 = .ok (.ifnull (-223), 3) := dk_198 255 33 (dk_at dksJ29_balanceInsertion_10 0 rfl rfl)
theorem dJ29_balanceInsertion_231 : decode cJ29_balanceInsertion 231 = .ok (.aload_n 3, 1) := dk_45 (dk_at dksJ29_balanceInsertion_10 3 rfl rfl)
theorem dJ29_balanceInsertion_232 : decode cJ29_balanceInsertion 232 = .ok (.iconst 1, 1) := dk_4 (dk_at dksJ29_balanceInsertion_10 4 rfl rfl)
theorem dJ29_balanceInsertion_233 : decode cJ29_balanceInsertion 233 = .ok (.putfield 93, 3) := dk_181 0 93 (dk_at dksJ29_balanceInsertion_10 5 rfl rfl)
theorem dJ29_balanceInsertion_236 : decode cJ29_balanceInsertion 236 = .ok (.aload_n 0, 1) := dk_42 (dk_at dksJ29_balanceInsertion_10 8 rfl rfl)
theorem dJ29_balanceInsertion_237 : decode cJ29_balanceInsertion 237 = .ok (.aload_n 3, 1) := dk_45 (dk_at dksJ29_balanceInsertion_10 9 rfl rfl)
theorem dJ29_balanceInsertion_238 : decode cJ29_balanceInsertion 238 = .ok (.invokestatic 130, 3) := dk_184 0 130 (dk_at dksJ29_balanceInsertion_10 10 rfl rfl)
theorem dJ29_balanceInsertion_241 : decode cJ29_balanceInsertion 241 = .ok (.astore_n 0, 1) := dk_75 (dk_at dksJ29_balanceInsertion_10 13 rfl rfl)
theorem dJ29_balanceInsertion_242 : decode cJ29_balanceInsertion 242 = .ok (.goto (-237), 3) := dk_167 255 19 (dk_at dksJ29_balanceInsertion_10 14 rfl rfl)
theorem q1609 : (Jvm.Cond.code ({ cls := "java/util/HashMap$TreeNode", name := "rotateLeft", desc := "(Ljava/util/HashMap$TreeNode;Ljava/util/HashMap$TreeNode;)Ljava/util/HashMap$TreeNode;" } : Jvm.MethodName) prog_65_method_12_code (5 : Nat) (Option.some (Jvm.ClassFile.FieldType.object "java/util/HashMap$TreeNode"))) ∈ lw_all := lw_g (lw_at lw_m7 89 rfl) rfl
theorem zk_J29_rotateLeft : zz_cd yJ29_rotateLeft cJ29_rotateLeft 5 (some (.object "java/util/HashMap$TreeNode")) none ∈ lw_all := q1609
theorem zy_J29_rotateLeft : zz_yok yJ29_rotateLeft 2 = true := by decide +kernel
theorem q1607 : (Jvm.Cond.methodLink "java/util/HashMap$TreeNode" (130 : Nat) ({ cls := "java/util/HashMap$TreeNode", name := "rotateLeft", desc := "(Ljava/util/HashMap$TreeNode;Ljava/util/HashMap$TreeNode;)Ljava/util/HashMap$TreeNode;" } : Jvm.MethodName)) ∈ lw_all := lw_g (lw_at lw_m7 87 rfl) rfl
theorem q1608 : (Jvm.Cond.static ({ cls := "java/util/HashMap$TreeNode", name := "rotateLeft", desc := "(Ljava/util/HashMap$TreeNode;Ljava/util/HashMap$TreeNode;)Ljava/util/HashMap$TreeNode;" } : Jvm.MethodName)) ∈ lw_all := lw_g (lw_at lw_m7 88 rfl) rfl
theorem q1612 : (Jvm.Cond.code ({ cls := "java/util/HashMap$TreeNode", name := "rotateRight", desc := "(Ljava/util/HashMap$TreeNode;Ljava/util/HashMap$TreeNode;)Ljava/util/HashMap$TreeNode;" } : Jvm.MethodName) prog_65_method_13_code (5 : Nat) (Option.some (Jvm.ClassFile.FieldType.object "java/util/HashMap$TreeNode"))) ∈ lw_all := lw_g (lw_at lw_m7 92 rfl) rfl
theorem zk_J29_rotateRight : zz_cd yJ29_rotateRight cJ29_rotateRight 5 (some (.object "java/util/HashMap$TreeNode")) none ∈ lw_all := q1612
theorem zy_J29_rotateRight : zz_yok yJ29_rotateRight 2 = true := by decide +kernel
theorem q1610 : (Jvm.Cond.methodLink "java/util/HashMap$TreeNode" (133 : Nat) ({ cls := "java/util/HashMap$TreeNode", name := "rotateRight", desc := "(Ljava/util/HashMap$TreeNode;Ljava/util/HashMap$TreeNode;)Ljava/util/HashMap$TreeNode;" } : Jvm.MethodName)) ∈ lw_all := lw_g (lw_at lw_m7 90 rfl) rfl
theorem q1611 : (Jvm.Cond.static ({ cls := "java/util/HashMap$TreeNode", name := "rotateRight", desc := "(Ljava/util/HashMap$TreeNode;Ljava/util/HashMap$TreeNode;)Ljava/util/HashMap$TreeNode;" } : Jvm.MethodName)) ∈ lw_all := lw_g (lw_at lw_m7 91 rfl) rfl
def wp_J29_balanceInsertion_B37 (Z : zzG) (K : Option Value → zzM → Prop) (v0 : Option Nat) (M : zzM) : Prop := K (some (va_rf v0)) M
def wp_J29_balanceInsertion_B123 (Z : zzG) (k5 : Option Nat → Option Nat → zzM → Prop) (K : Option Value → zzM → Prop) (v0 : Option Nat) (v1 : Option Nat) (v2 : Option Nat) (v3 : Option Nat) (M : zzM) : Prop := if v2 = none then (k5 v0 v1 M) else (zfit .boolean (0 : Int32) ∧ zput Z M v2 [25] 8 (.int (0 : Int32)) fun M24 => if v3 = none then (k5 v0 v1 M24) else (zfit .boolean (1 : Int32) ∧ zput Z M24 v3 [25] 8 (.int (1 : Int32)) fun M25 => wp_J29_rotateRight Z v0 v3 M25 (fun r26 M27 => zrA r26 fun x30 => k5 x30 v1 M27)))
def wp_J29_balanceInsertion_B122 (Z : zzG) (k5 : Option Nat → Option Nat → zzM → Prop) (K : Option Value → zzM → Prop) (v0 : Option Nat) (v1 : Option Nat) (v2 : Option Nat) (s0 : Option Nat) (M : zzM) : Prop := wp_J29_balanceInsertion_B123 Z k5 K v0 v1 v2 s0 M
def wp_J29_balanceInsertion_B89 (Z : zzG) (k5 : Option Nat → Option Nat → zzM → Prop) (K : Option Value → zzM → Prop) (v0 : Option Nat) (v1 : Option Nat) (v2 : Option Nat) (v3 : Option Nat) (M : zzM) : Prop := zgA Z M v2 [25] 6 fun x16 => if v1 = x16 then (wp_J29_rotateLeft Z v0 v2 M (fun r17 M18 => zrA r17 fun x21 => zgA Z M18 v2 [25] 4 fun x22 => if x22 = none then (wp_J29_balanceInsertion_B122 Z k5 K x21 v2 x22 none M18) else (zgA Z M18 x22 [25] 4 fun x23 => wp_J29_balanceInsertion_B122 Z k5 K x21 v2 x22 x23 M18))) else (wp_J29_balanceInsertion_B123 Z k5 K v0 v1 v2 v3 M)
def wp_J29_balanceInsertion_B218 (Z : zzG) (k5 : Option Nat → Option Nat → zzM → Prop) (K : Option Value → zzM → Prop) (v0 : Option Nat) (v1 : Option Nat) (v2 : Option Nat) (v3 : Option Nat) (M : zzM) : Prop := if v2 = none then (k5 v0 v1 M) else (zfit .boolean (0 : Int32) ∧ zput Z M v2 [25] 8 (.int (0 : Int32)) fun M39 => if v3 = none then (k5 v0 v1 M39) else (zfit .boolean (1 : Int32) ∧ zput Z M39 v3 [25] 8 (.int (1 : Int32)) fun M40 => wp_J29_rotateLeft Z v0 v3 M40 (fun r41 M42 => zrA r41 fun x45 => k5 x45 v1 M42)))
def wp_J29_balanceInsertion_B217 (Z : zzG) (k5 : Option Nat → Option Nat → zzM → Prop) (K : Option Value → zzM → Prop) (v0 : Option Nat) (v1 : Option Nat) (v2 : Option Nat) (s0 : Option Nat) (M : zzM) : Prop := wp_J29_balanceInsertion_B218 Z k5 K v0 v1 v2 s0 M
def wp_J29_balanceInsertion_B184 (Z : zzG) (k5 : Option Nat → Option Nat → zzM → Prop) (K : Option Value → zzM → Prop) (v0 : Option Nat) (v1 : Option Nat) (v2 : Option Nat) (v3 : Option Nat) (M : zzM) : Prop := zgA Z M v2 [25] 5 fun x31 => if v1 = x31 then (wp_J29_rotateRight Z v0 v2 M (fun r32 M33 => zrA r32 fun x36 => zgA Z M33 v2 [25] 4 fun x37 => if x37 = none then (wp_J29_balanceInsertion_B217 Z k5 K x36 v2 x37 none M33) else (zgA Z M33 x37 [25] 4 fun x38 => wp_J29_balanceInsertion_B217 Z k5 K x36 v2 x37 x38 M33))) else (wp_J29_balanceInsertion_B218 Z k5 K v0 v1 v2 v3 M)
def wp_J29_balanceInsertion_L5 (Z : zzG) (K : Option Value → zzM → Prop) : Nat → Option Nat → Option Nat → zzM → Prop
  | 0, _, _, _ => False
  | n + 1, v0, v1, M => zgA Z M v1 [25] 4 fun x2 => if x2 = none then (zfit .boolean (0 : Int32) ∧ zput Z M v1 [25] 8 (.int (0 : Int32)) fun M15 => K (some (va_rf v1)) M15) else (zgI Z M x2 [25] 8 fun x3 => if x3 = 0 then (wp_J29_balanceInsertion_B37 Z K v0 M) else (zgA Z M x2 [25] 4 fun x4 => if x4 = none then (wp_J29_balanceInsertion_B37 Z K v0 M) else (zgA Z M x4 [25] 5 fun x5 => if x2 = x5 then (zgA Z M x4 [25] 6 fun x10 => if x10 = none then (wp_J29_balanceInsertion_B89 Z (wp_J29_balanceInsertion_L5 Z K n) K v0 v1 x2 x4 M) else (zgI Z M x10 [25] 8 fun x11 => if x11 = 0 then (wp_J29_balanceInsertion_B89 Z (wp_J29_balanceInsertion_L5 Z K n) K v0 v1 x2 x4 M) else (zfit .boolean (0 : Int32) ∧ zput Z M x10 [25] 8 (.int (0 : Int32)) fun M12 => zfit .boolean (0 : Int32) ∧ zput Z M12 x2 [25] 8 (.int (0 : Int32)) fun M13 => zfit .boolean (1 : Int32) ∧ zput Z M13 x4 [25] 8 (.int (1 : Int32)) fun M14 => wp_J29_balanceInsertion_L5 Z K n v0 x4 M14))) else (if x5 = none then (wp_J29_balanceInsertion_B184 Z (wp_J29_balanceInsertion_L5 Z K n) K v0 v1 x2 x4 M) else (zgI Z M x5 [25] 8 fun x6 => if x6 = 0 then (wp_J29_balanceInsertion_B184 Z (wp_J29_balanceInsertion_L5 Z K n) K v0 v1 x2 x4 M) else (zfit .boolean (0 : Int32) ∧ zput Z M x5 [25] 8 (.int (0 : Int32)) fun M7 => zfit .boolean (0 : Int32) ∧ zput Z M7 x2 [25] 8 (.int (0 : Int32)) fun M8 => zfit .boolean (1 : Int32) ∧ zput Z M8 x4 [25] 8 (.int (1 : Int32)) fun M9 => wp_J29_balanceInsertion_L5 Z K n v0 x4 M9))))))
def wp_J29_balanceInsertion (Z : zzG) (p0 : Option Nat) (p1 : Option Nat) (M : zzM) (K : Option Value → zzM → Prop) : Prop := zfit .boolean (1 : Int32) ∧ zput Z M p1 [25] 8 (.int (1 : Int32)) fun M1 => ∃ n5 : Nat, wp_J29_balanceInsertion_L5 Z K n5 p0 p1 M1
theorem ok_J29_balanceInsertion_B37 {G : zzX} (C : zz_C G cJ29_balanceInsertion "java/util/HashMap$TreeNode" 6) {K : Option Value → zzM → Prop} (E : zz_E G (some (.object "java/util/HashMap$TreeNode")) K (fun _ _ _ => False)) (hH : zz_H G []) (hR : zz_Rm G 2) {v0 : Option Nat} {M : zzM} {bc bs : Nat} (hw : wp_J29_balanceInsertion_B37 (zz_Zof G) K v0 M) : zz_T G 6 M bc bs 37 [(0, va_rf v0)] [] := by
  unfold wp_J29_balanceInsertion_B37 at hw
  refine zz_aload_n C dJ29_balanceInsertion_37 rfl 0 rfl ?_
  exact zz_aret C E (Or.inl ⟨_, rfl⟩) dJ29_balanceInsertion_38 hw
theorem ok_J29_balanceInsertion_B123 {G : zzX} (C : zz_C G cJ29_balanceInsertion "java/util/HashMap$TreeNode" 6) {K : Option Value → zzM → Prop} (E : zz_E G (some (.object "java/util/HashMap$TreeNode")) K (fun _ _ _ => False)) (hH : zz_H G []) (hR : zz_Rm G 2) {k5 : Option Nat → Option Nat → zzM → Prop} (hk5 : ∀ (z0 : Option Nat) (z1 : Option Nat) (M : zzM) (bc bs : Nat), k5 z0 z1 M → zz_T G 6 M bc bs 5 [(0, va_rf z0), (1, va_rf z1)] []) {v0 : Option Nat} {v1 : Option Nat} {v2 : Option Nat} {v3 : Option Nat} {M : zzM} {bc bs : Nat} (hw : wp_J29_balanceInsertion_B123 (zz_Zof G) k5 K v0 v1 v2 v3 M) : zz_T G 6 M bc bs 123 [(0, va_rf v0), (1, va_rf v1), (2, va_rf v2), (3, va_rf v3)] [] := by
  unfold wp_J29_balanceInsertion_B123 at hw
  refine zz_aload_n C dJ29_balanceInsertion_123 rfl 2 rfl ?_
  refine zz_ifnull (tgt := 5) C dJ29_balanceInsertion_124 (by decide) hw (fun hw => ?_) (fun hw => ?_)
  · refine zz_subP [0, 1] rfl ?_
    exact hk5 _ _ _ _ _ hw
  · refine zz_aload_n C dJ29_balanceInsertion_127 rfl 2 rfl ?_
    refine zz_iconst (v := (0 : Int32)) C dJ29_balanceInsertion_128 (by decide) ?_
    obtain ⟨hfit, hw⟩ := hw
    refine zz_put C dJ29_balanceInsertion_129 (Or.inl q1690) zf_25_8_shMap_TreeNode zp_25_8 (zz_hn1 hfit) hw (fun M24 hw => ?_)
    refine zz_aload_n C dJ29_balanceInsertion_132 rfl 3 rfl ?_
    refine zz_ifnull (tgt := 5) C dJ29_balanceInsertion_133 (by decide) hw (fun hw => ?_) (fun hw => ?_)
    · refine zz_subP [0, 1] rfl ?_
      exact hk5 _ _ _ _ _ hw
    · refine zz_aload_n C dJ29_balanceInsertion_136 rfl 3 rfl ?_
      refine zz_iconst (v := (1 : Int32)) C dJ29_balanceInsertion_137 (by decide) ?_
      obtain ⟨hfit, hw⟩ := hw
      refine zz_put C dJ29_balanceInsertion_138 (Or.inl q1690) zf_25_8_shMap_TreeNode zp_25_8 (zz_hn1 hfit) hw (fun M25 hw => ?_)
      refine zz_aload_n C dJ29_balanceInsertion_141 rfl 0 rfl ?_
      refine zz_aload_n C dJ29_balanceInsertion_142 rfl 3 rfl ?_
      refine zz_callS (As := [va_rf v0, va_rf v3]) (rest := []) (mc := 0) (ms := 0) C hR dJ29_balanceInsertion_143 (Or.inl q1610) q1611 zl_java_util_HashMap_TreeNode zk_J29_rotateRight (Or.inl rfl) zy_J29_rotateRight (by decide) (by decide) (ok_J29_rotateRight (zz_hl C) hw) (Nat.zero_le _) (Nat.zero_le _) (zz_cat10 _ (Nat.le_of_ble_eq_true rfl)) (fun r26 M27 hw => zz_kA hw (fun x30 hw => ?_)) (fun _ _ _ h9 => h9.elim) rfl
      refine zz_astore_n (i := 0) (lv' := [(0, va_rf x30), (1, va_rf v1), (2, va_rf v2), (3, va_rf v3)]) C dJ29_balanceInsertion_146 rfl (by decide) rfl ?_
      refine zz_goto (tgt := 5) C dJ29_balanceInsertion_147 (by decide) ?_
      refine zz_subP [0, 1] rfl ?_
      exact hk5 _ _ _ _ _ hw
theorem ok_J29_balanceInsertion_B122 {G : zzX} (C : zz_C G cJ29_balanceInsertion "java/util/HashMap$TreeNode" 6) {K : Option Value → zzM → Prop} (E : zz_E G (some (.object "java/util/HashMap$TreeNode")) K (fun _ _ _ => False)) (hH : zz_H G []) (hR : zz_Rm G 2) {k5 : Option Nat → Option Nat → zzM → Prop} (hk5 : ∀ (z0 : Option Nat) (z1 : Option Nat) (M : zzM) (bc bs : Nat), k5 z0 z1 M → zz_T G 6 M bc bs 5 [(0, va_rf z0), (1, va_rf z1)] []) {v0 : Option Nat} {v1 : Option Nat} {v2 : Option Nat} {s0 : Option Nat} {M : zzM} {bc bs : Nat} (hw : wp_J29_balanceInsertion_B122 (zz_Zof G) k5 K v0 v1 v2 s0 M) : zz_T G 6 M bc bs 122 [(0, va_rf v0), (1, va_rf v1), (2, va_rf v2)] [va_rf s0] := by
  unfold wp_J29_balanceInsertion_B122 at hw
  refine zz_astore_n (i := 3) (lv' := [(3, va_rf s0), (0, va_rf v0), (1, va_rf v1), (2, va_rf v2)]) C dJ29_balanceInsertion_122 rfl (by decide) (by simp [zz_cat, zz_catI, zz_catJ, zz_catD]) ?_
  refine zz_subP [1, 2, 3, 0] rfl ?_
  exact ok_J29_balanceInsertion_B123 C E hH hR hk5 hw
theorem ok_J29_balanceInsertion_B89 {G : zzX} (C : zz_C G cJ29_balanceInsertion "java/util/HashMap$TreeNode" 6) {K : Option Value → zzM → Prop} (E : zz_E G (some (.object "java/util/HashMap$TreeNode")) K (fun _ _ _ => False)) (hH : zz_H G []) (hR : zz_Rm G 2) {k5 : Option Nat → Option Nat → zzM → Prop} (hk5 : ∀ (z0 : Option Nat) (z1 : Option Nat) (M : zzM) (bc bs : Nat), k5 z0 z1 M → zz_T G 6 M bc bs 5 [(0, va_rf z0), (1, va_rf z1)] []) {v0 : Option Nat} {v1 : Option Nat} {v2 : Option Nat} {v3 : Option Nat} {M : zzM} {bc bs : Nat} (hw : wp_J29_balanceInsertion_B89 (zz_Zof G) k5 K v0 v1 v2 v3 M) : zz_T G 6 M bc bs 89 [(0, va_rf v0), (1, va_rf v1), (2, va_rf v2), (3, va_rf v3)] [] := by
  unfold wp_J29_balanceInsertion_B89 at hw
  refine zz_aload_n C dJ29_balanceInsertion_89 rfl 1 rfl ?_
  refine zz_aload_n C dJ29_balanceInsertion_90 rfl 2 rfl ?_
  refine zz_getA C dJ29_balanceInsertion_91 (Or.inl q1687) zf_25_6_shMap_TreeNode hw (fun x16 hw => ?_)
  refine zz_acmp_ne (tgt := 123) C dJ29_balanceInsertion_94 (by decide) hw (fun hw => ?_) (fun hw => ?_)
  · refine zz_subP [0, 1, 2, 3] rfl ?_
    exact ok_J29_balanceInsertion_B123 C E hH hR hk5 hw
  · refine zz_aload_n C dJ29_balanceInsertion_97 rfl 0 rfl ?_
    refine zz_aload_n C dJ29_balanceInsertion_98 rfl 2 rfl ?_
    refine zz_dup C dJ29_balanceInsertion_99 (zz_cat _) ?_
    refine zz_astore_n (i := 1) (lv' := [(1, va_rf v2), (0, va_rf v0), (2, va_rf v2), (3, va_rf v3)]) C dJ29_balanceInsertion_100 rfl (by decide) (by simp [zz_cat, zz_catI, zz_catJ, zz_catD]) ?_
    refine zz_callS (As := [va_rf v0, va_rf v2]) (rest := []) (mc := 0) (ms := 0) C hR dJ29_balanceInsertion_101 (Or.inl q1607) q1608 zl_java_util_HashMap_TreeNode zk_J29_rotateLeft (Or.inl rfl) zy_J29_rotateLeft (by decide) (by decide) (ok_J29_rotateLeft (zz_hl C) hw) (Nat.zero_le _) (Nat.zero_le _) (zz_cat10 _ (Nat.le_of_ble_eq_true rfl)) (fun r17 M18 hw => zz_kA hw (fun x21 hw => ?_)) (fun _ _ _ h9 => h9.elim) rfl
    refine zz_astore_n (i := 0) (lv' := [(0, va_rf x21), (1, va_rf v2), (2, va_rf v2), (3, va_rf v3)]) C dJ29_balanceInsertion_104 rfl (by decide) rfl ?_
    refine zz_aload_n C dJ29_balanceInsertion_105 rfl 1 rfl ?_
    refine zz_getA C dJ29_balanceInsertion_106 (Or.inl q1685) zf_25_4_shMap_TreeNode hw (fun x22 hw => ?_)
    refine zz_dup C dJ29_balanceInsertion_109 (zz_cat _) ?_
    refine zz_astore_n (i := 2) (lv' := [(2, va_rf x22), (0, va_rf x21), (1, va_rf v2), (3, va_rf v3)]) C dJ29_balanceInsertion_110 rfl (by decide) (by simp [zz_cat, zz_catI, zz_catJ, zz_catD]) ?_
    refine zz_ifnonnull (tgt := 118) C dJ29_balanceInsertion_111 (by decide) hw (fun hw => ?_) (fun hw => ?_)
    · refine zz_aload_n C dJ29_balanceInsertion_118 rfl 0 rfl ?_
      refine zz_getA C dJ29_balanceInsertion_119 (Or.inl q1685) zf_25_4_shMap_TreeNode hw (fun x23 hw => ?_)
      refine zz_subP [1, 2, 0] rfl ?_
      exact ok_J29_balanceInsertion_B122 C E hH hR hk5 hw
    · refine zz_null C dJ29_balanceInsertion_114 ?_
      refine zz_goto (tgt := 122) C dJ29_balanceInsertion_115 (by decide) ?_
      refine zz_subP [1, 2, 0] rfl ?_
      exact ok_J29_balanceInsertion_B122 C E hH hR hk5 hw
theorem ok_J29_balanceInsertion_B218 {G : zzX} (C : zz_C G cJ29_balanceInsertion "java/util/HashMap$TreeNode" 6) {K : Option Value → zzM → Prop} (E : zz_E G (some (.object "java/util/HashMap$TreeNode")) K (fun _ _ _ => False)) (hH : zz_H G []) (hR : zz_Rm G 2) {k5 : Option Nat → Option Nat → zzM → Prop} (hk5 : ∀ (z0 : Option Nat) (z1 : Option Nat) (M : zzM) (bc bs : Nat), k5 z0 z1 M → zz_T G 6 M bc bs 5 [(0, va_rf z0), (1, va_rf z1)] []) {v0 : Option Nat} {v1 : Option Nat} {v2 : Option Nat} {v3 : Option Nat} {M : zzM} {bc bs : Nat} (hw : wp_J29_balanceInsertion_B218 (zz_Zof G) k5 K v0 v1 v2 v3 M) : zz_T G 6 M bc bs 218 [(0, va_rf v0), (1, va_rf v1), (2, va_rf v2), (3, va_rf v3)] [] := by
  unfold wp_J29_balanceInsertion_B218 at hw
  refine zz_aload_n C dJ29_balanceInsertion_218 rfl 2 rfl ?_
  refine zz_ifnull (tgt := 5) C dJ29_balanceInsertion_219 (by decide) hw (fun hw => ?_) (fun hw => ?_)
  · refine zz_subP [0, 1] rfl ?_
    exact hk5 _ _ _ _ _ hw
  · refine zz_aload_n C dJ29_balanceInsertion_222 rfl 2 rfl ?_
    refine zz_iconst (v := (0 : Int32)) C dJ29_balanceInsertion_223 (by decide) ?_
    obtain ⟨hfit, hw⟩ := hw
    refine zz_put C dJ29_balanceInsertion_224 (Or.inl q1690) zf_25_8_shMap_TreeNode zp_25_8 (zz_hn1 hfit) hw (fun M39 hw => ?_)
    refine zz_aload_n C dJ29_balanceInsertion_227 rfl 3 rfl ?_
    refine zz_ifnull (tgt := 5) C dJ29_balanceInsertion_228 (by decide) hw (fun hw => ?_) (fun hw => ?_)
    · refine zz_subP [0, 1] rfl ?_
      exact hk5 _ _ _ _ _ hw
    · refine zz_aload_n C dJ29_balanceInsertion_231 rfl 3 rfl ?_
      refine zz_iconst (v := (1 : Int32)) C dJ29_balanceInsertion_232 (by decide) ?_
      obtain ⟨hfit, hw⟩ := hw
      refine zz_put C dJ29_balanceInsertion_233 (Or.inl q1690) zf_25_8_shMap_TreeNode zp_25_8 (zz_hn1 hfit) hw (fun M40 hw => ?_)
      refine zz_aload_n C dJ29_balanceInsertion_236 rfl 0 rfl ?_
      refine zz_aload_n C dJ29_balanceInsertion_237 rfl 3 rfl ?_
      refine zz_callS (As := [va_rf v0, va_rf v3]) (rest := []) (mc := 0) (ms := 0) C hR dJ29_balanceInsertion_238 (Or.inl q1607) q1608 zl_java_util_HashMap_TreeNode zk_J29_rotateLeft (Or.inl rfl) zy_J29_rotateLeft (by decide) (by decide) (ok_J29_rotateLeft (zz_hl C) hw) (Nat.zero_le _) (Nat.zero_le _) (zz_cat10 _ (Nat.le_of_ble_eq_true rfl)) (fun r41 M42 hw => zz_kA hw (fun x45 hw => ?_)) (fun _ _ _ h9 => h9.elim) rfl
      refine zz_astore_n (i := 0) (lv' := [(0, va_rf x45), (1, va_rf v1), (2, va_rf v2), (3, va_rf v3)]) C dJ29_balanceInsertion_241 rfl (by decide) rfl ?_
      refine zz_goto (tgt := 5) C dJ29_balanceInsertion_242 (by decide) ?_
      refine zz_subP [0, 1] rfl ?_
      exact hk5 _ _ _ _ _ hw
theorem ok_J29_balanceInsertion_B217 {G : zzX} (C : zz_C G cJ29_balanceInsertion "java/util/HashMap$TreeNode" 6) {K : Option Value → zzM → Prop} (E : zz_E G (some (.object "java/util/HashMap$TreeNode")) K (fun _ _ _ => False)) (hH : zz_H G []) (hR : zz_Rm G 2) {k5 : Option Nat → Option Nat → zzM → Prop} (hk5 : ∀ (z0 : Option Nat) (z1 : Option Nat) (M : zzM) (bc bs : Nat), k5 z0 z1 M → zz_T G 6 M bc bs 5 [(0, va_rf z0), (1, va_rf z1)] []) {v0 : Option Nat} {v1 : Option Nat} {v2 : Option Nat} {s0 : Option Nat} {M : zzM} {bc bs : Nat} (hw : wp_J29_balanceInsertion_B217 (zz_Zof G) k5 K v0 v1 v2 s0 M) : zz_T G 6 M bc bs 217 [(0, va_rf v0), (1, va_rf v1), (2, va_rf v2)] [va_rf s0] := by
  unfold wp_J29_balanceInsertion_B217 at hw
  refine zz_astore_n (i := 3) (lv' := [(3, va_rf s0), (0, va_rf v0), (1, va_rf v1), (2, va_rf v2)]) C dJ29_balanceInsertion_217 rfl (by decide) (by simp [zz_cat, zz_catI, zz_catJ, zz_catD]) ?_
  refine zz_subP [1, 2, 3, 0] rfl ?_
  exact ok_J29_balanceInsertion_B218 C E hH hR hk5 hw
theorem ok_J29_balanceInsertion_B184 {G : zzX} (C : zz_C G cJ29_balanceInsertion "java/util/HashMap$TreeNode" 6) {K : Option Value → zzM → Prop} (E : zz_E G (some (.object "java/util/HashMap$TreeNode")) K (fun _ _ _ => False)) (hH : zz_H G []) (hR : zz_Rm G 2) {k5 : Option Nat → Option Nat → zzM → Prop} (hk5 : ∀ (z0 : Option Nat) (z1 : Option Nat) (M : zzM) (bc bs : Nat), k5 z0 z1 M → zz_T G 6 M bc bs 5 [(0, va_rf z0), (1, va_rf z1)] []) {v0 : Option Nat} {v1 : Option Nat} {v2 : Option Nat} {v3 : Option Nat} {M : zzM} {bc bs : Nat} (hw : wp_J29_balanceInsertion_B184 (zz_Zof G) k5 K v0 v1 v2 v3 M) : zz_T G 6 M bc bs 184 [(0, va_rf v0), (1, va_rf v1), (2, va_rf v2), (3, va_rf v3)] [] := by
  unfold wp_J29_balanceInsertion_B184 at hw
  refine zz_aload_n C dJ29_balanceInsertion_184 rfl 1 rfl ?_
  refine zz_aload_n C dJ29_balanceInsertion_185 rfl 2 rfl ?_
  refine zz_getA C dJ29_balanceInsertion_186 (Or.inl q1686) zf_25_5_shMap_TreeNode hw (fun x31 hw => ?_)
  refine zz_acmp_ne (tgt := 218) C dJ29_balanceInsertion_189 (by decide) hw (fun hw => ?_) (fun hw => ?_)
  · refine zz_subP [0, 1, 2, 3] rfl ?_
    exact ok_J29_balanceInsertion_B218 C E hH hR hk5 hw
  · refine zz_aload_n C dJ29_balanceInsertion_192 rfl 0 rfl ?_
    refine zz_aload_n C dJ29_balanceInsertion_193 rfl 2 rfl ?_
    refine zz_dup C dJ29_balanceInsertion_194 (zz_cat _) ?_
    refine zz_astore_n (i := 1) (lv' := [(1, va_rf v2), (0, va_rf v0), (2, va_rf v2), (3, va_rf v3)]) C dJ29_balanceInsertion_195 rfl (by decide) (by simp [zz_cat, zz_catI, zz_catJ, zz_catD]) ?_
    refine zz_callS (As := [va_rf v0, va_rf v2]) (rest := []) (mc := 0) (ms := 0) C hR dJ29_balanceInsertion_196 (Or.inl q1610) q1611 zl_java_util_HashMap_TreeNode zk_J29_rotateRight (Or.inl rfl) zy_J29_rotateRight (by decide) (by decide) (ok_J29_rotateRight (zz_hl C) hw) (Nat.zero_le _) (Nat.zero_le _) (zz_cat10 _ (Nat.le_of_ble_eq_true rfl)) (fun r32 M33 hw => zz_kA hw (fun x36 hw => ?_)) (fun _ _ _ h9 => h9.elim) rfl
    refine zz_astore_n (i := 0) (lv' := [(0, va_rf x36), (1, va_rf v2), (2, va_rf v2), (3, va_rf v3)]) C dJ29_balanceInsertion_199 rfl (by decide) rfl ?_
    refine zz_aload_n C dJ29_balanceInsertion_200 rfl 1 rfl ?_
    refine zz_getA C dJ29_balanceInsertion_201 (Or.inl q1685) zf_25_4_shMap_TreeNode hw (fun x37 hw => ?_)
    refine zz_dup C dJ29_balanceInsertion_204 (zz_cat _) ?_
    refine zz_astore_n (i := 2) (lv' := [(2, va_rf x37), (0, va_rf x36), (1, va_rf v2), (3, va_rf v3)]) C dJ29_balanceInsertion_205 rfl (by decide) (by simp [zz_cat, zz_catI, zz_catJ, zz_catD]) ?_
    refine zz_ifnonnull (tgt := 213) C dJ29_balanceInsertion_206 (by decide) hw (fun hw => ?_) (fun hw => ?_)
    · refine zz_aload_n C dJ29_balanceInsertion_213 rfl 0 rfl ?_
      refine zz_getA C dJ29_balanceInsertion_214 (Or.inl q1685) zf_25_4_shMap_TreeNode hw (fun x38 hw => ?_)
      refine zz_subP [1, 2, 0] rfl ?_
      exact ok_J29_balanceInsertion_B217 C E hH hR hk5 hw
    · refine zz_null C dJ29_balanceInsertion_209 ?_
      refine zz_goto (tgt := 217) C dJ29_balanceInsertion_210 (by decide) ?_
      refine zz_subP [1, 2, 0] rfl ?_
      exact ok_J29_balanceInsertion_B217 C E hH hR hk5 hw
theorem ok_J29_balanceInsertion_L5 {G : zzX} (C : zz_C G cJ29_balanceInsertion "java/util/HashMap$TreeNode" 6) {K : Option Value → zzM → Prop} (E : zz_E G (some (.object "java/util/HashMap$TreeNode")) K (fun _ _ _ => False)) (hH : zz_H G []) (hR : zz_Rm G 2) : ∀ (n : Nat) (v0 : Option Nat) (v1 : Option Nat) (M : zzM) (bc bs : Nat), wp_J29_balanceInsertion_L5 (zz_Zof G) K n v0 v1 M → zz_T G 6 M bc bs 5 [(0, va_rf v0), (1, va_rf v1)] [] := by
  intro n
  induction n with
  | zero =>
    intro v0 v1 M bc bs hw
    exact False.elim hw
  | succ n ih =>
    intro v0 v1 M bc bs hw
    refine zz_aload_n C dJ29_balanceInsertion_5 rfl 1 rfl ?_
    refine zz_getA C dJ29_balanceInsertion_6 (Or.inl q1685) zf_25_4_shMap_TreeNode hw (fun x2 hw => ?_)
    refine zz_dup C dJ29_balanceInsertion_9 (zz_cat _) ?_
    refine zz_astore_n (i := 2) (lv' := [(2, va_rf x2), (0, va_rf v0), (1, va_rf v1)]) C dJ29_balanceInsertion_10 rfl (by decide) (by simp [zz_cat, zz_catI, zz_catJ, zz_catD]) ?_
    refine zz_ifnonnull (tgt := 21) C dJ29_balanceInsertion_11 (by decide) hw (fun hw => ?_) (fun hw => ?_)
    · refine zz_aload_n C dJ29_balanceInsertion_21 rfl 0 rfl ?_
      refine zz_getI C dJ29_balanceInsertion_22 (Or.inl q1690) zf_25_8_shMap_TreeNode hw (fun x3 hw => ?_)
      refine zz_if_eq (tgt := 37) C dJ29_balanceInsertion_25 (by decide) hw (fun hw => ?_) (fun hw => ?_)
      · refine zz_subP [1] rfl ?_
        exact ok_J29_balanceInsertion_B37 C E hH hR hw
      · refine zz_aload_n C dJ29_balanceInsertion_28 rfl 0 rfl ?_
        refine zz_getA C dJ29_balanceInsertion_29 (Or.inl q1685) zf_25_4_shMap_TreeNode hw (fun x4 hw => ?_)
        refine zz_dup C dJ29_balanceInsertion_32 (zz_cat _) ?_
        refine zz_astore_n (i := 3) (lv' := [(3, va_rf x4), (2, va_rf x2), (0, va_rf v0), (1, va_rf v1)]) C dJ29_balanceInsertion_33 rfl (by decide) (by simp [zz_cat, zz_catI, zz_catJ, zz_catD]) ?_
        refine zz_ifnonnull (tgt := 39) C dJ29_balanceInsertion_34 (by decide) hw (fun hw => ?_) (fun hw => ?_)
        · refine zz_aload_n C dJ29_balanceInsertion_39 rfl 1 rfl ?_
          refine zz_aload_n C dJ29_balanceInsertion_40 rfl 0 rfl ?_
          refine zz_getA C dJ29_balanceInsertion_41 (Or.inl q1686) zf_25_5_shMap_TreeNode hw (fun x5 hw => ?_)
          refine zz_dup C dJ29_balanceInsertion_44 (zz_cat _) ?_
          refine zz_astore (lv' := [(4, va_rf x5), (3, va_rf x4), (2, va_rf x2), (0, va_rf v0), (1, va_rf v1)]) C dJ29_balanceInsertion_45 (by decide) (by simp [zz_cat, zz_catI, zz_catJ, zz_catD]) ?_
          refine zz_acmp_ne (tgt := 150) C dJ29_balanceInsertion_47 (by decide) hw (fun hw => ?_) (fun hw => ?_)
          · refine zz_aload C dJ29_balanceInsertion_150 0 rfl ?_
            refine zz_ifnull (tgt := 184) C dJ29_balanceInsertion_152 (by decide) hw (fun hw => ?_) (fun hw => ?_)
            · refine zz_subP [3, 4, 2, 1] rfl ?_
              exact ok_J29_balanceInsertion_B184 C E hH hR (fun z0 z1 z2 z3 z4 hw => ih z0 z1 z2 z3 z4 hw) hw
            · refine zz_aload C dJ29_balanceInsertion_155 0 rfl ?_
              refine zz_getI C dJ29_balanceInsertion_157 (Or.inl q1690) zf_25_8_shMap_TreeNode hw (fun x6 hw => ?_)
              refine zz_if_eq (tgt := 184) C dJ29_balanceInsertion_160 (by decide) hw (fun hw => ?_) (fun hw => ?_)
              · refine zz_subP [3, 4, 2, 1] rfl ?_
                exact ok_J29_balanceInsertion_B184 C E hH hR (fun z0 z1 z2 z3 z4 hw => ih z0 z1 z2 z3 z4 hw) hw
              · refine zz_aload C dJ29_balanceInsertion_163 0 rfl ?_
                refine zz_iconst (v := (0 : Int32)) C dJ29_balanceInsertion_165 (by decide) ?_
                obtain ⟨hfit, hw⟩ := hw
                refine zz_put C dJ29_balanceInsertion_166 (Or.inl q1690) zf_25_8_shMap_TreeNode zp_25_8 (zz_hn1 hfit) hw (fun M7 hw => ?_)
                refine zz_aload_n C dJ29_balanceInsertion_169 rfl 2 rfl ?_
                refine zz_iconst (v := (0 : Int32)) C dJ29_balanceInsertion_170 (by decide) ?_
                obtain ⟨hfit, hw⟩ := hw
                refine zz_put C dJ29_balanceInsertion_171 (Or.inl q1690) zf_25_8_shMap_TreeNode zp_25_8 (zz_hn1 hfit) hw (fun M8 hw => ?_)
                refine zz_aload_n C dJ29_balanceInsertion_174 rfl 1 rfl ?_
                refine zz_iconst (v := (1 : Int32)) C dJ29_balanceInsertion_175 (by decide) ?_
                obtain ⟨hfit, hw⟩ := hw
                refine zz_put C dJ29_balanceInsertion_176 (Or.inl q1690) zf_25_8_shMap_TreeNode zp_25_8 (zz_hn1 hfit) hw (fun M9 hw => ?_)
                refine zz_aload_n C dJ29_balanceInsertion_179 rfl 1 rfl ?_
                refine zz_astore_n (i := 1) (lv' := [(1, va_rf x4), (4, va_rf x5), (3, va_rf x4), (2, va_rf x2), (0, va_rf v0)]) C dJ29_balanceInsertion_180 rfl (by decide) (by simp [zz_cat, zz_catI, zz_catJ, zz_catD]) ?_
                refine zz_goto (tgt := 5) C dJ29_balanceInsertion_181 (by decide) ?_
                refine zz_subP [4, 0] rfl ?_
                exact ih _ _ _ _ _ hw
          · refine zz_aload_n C dJ29_balanceInsertion_50 rfl 1 rfl ?_
            refine zz_getA C dJ29_balanceInsertion_51 (Or.inl q1687) zf_25_6_shMap_TreeNode hw (fun x10 hw => ?_)
            refine zz_dup C dJ29_balanceInsertion_54 (zz_cat _) ?_
            refine zz_astore (lv' := [(5, va_rf x10), (4, va_rf x5), (3, va_rf x4), (2, va_rf x2), (0, va_rf v0), (1, va_rf v1)]) C dJ29_balanceInsertion_55 (by decide) (by simp [zz_cat, zz_catI, zz_catJ, zz_catD]) ?_
            refine zz_ifnull (tgt := 89) C dJ29_balanceInsertion_57 (by decide) hw (fun hw => ?_) (fun hw => ?_)
            · refine zz_subP [4, 5, 3, 2] rfl ?_
              exact ok_J29_balanceInsertion_B89 C E hH hR (fun z0 z1 z2 z3 z4 hw => ih z0 z1 z2 z3 z4 hw) hw
            · refine zz_aload C dJ29_balanceInsertion_60 0 rfl ?_
              refine zz_getI C dJ29_balanceInsertion_62 (Or.inl q1690) zf_25_8_shMap_TreeNode hw (fun x11 hw => ?_)
              refine zz_if_eq (tgt := 89) C dJ29_balanceInsertion_65 (by decide) hw (fun hw => ?_) (fun hw => ?_)
              · refine zz_subP [4, 5, 3, 2] rfl ?_
                exact ok_J29_balanceInsertion_B89 C E hH hR (fun z0 z1 z2 z3 z4 hw => ih z0 z1 z2 z3 z4 hw) hw
              · refine zz_aload C dJ29_balanceInsertion_68 0 rfl ?_
                refine zz_iconst (v := (0 : Int32)) C dJ29_balanceInsertion_70 (by decide) ?_
                obtain ⟨hfit, hw⟩ := hw
                refine zz_put C dJ29_balanceInsertion_71 (Or.inl q1690) zf_25_8_shMap_TreeNode zp_25_8 (zz_hn1 hfit) hw (fun M12 hw => ?_)
                refine zz_aload_n C dJ29_balanceInsertion_74 rfl 3 rfl ?_
                refine zz_iconst (v := (0 : Int32)) C dJ29_balanceInsertion_75 (by decide) ?_
                obtain ⟨hfit, hw⟩ := hw
                refine zz_put C dJ29_balanceInsertion_76 (Or.inl q1690) zf_25_8_shMap_TreeNode zp_25_8 (zz_hn1 hfit) hw (fun M13 hw => ?_)
                refine zz_aload_n C dJ29_balanceInsertion_79 rfl 2 rfl ?_
                refine zz_iconst (v := (1 : Int32)) C dJ29_balanceInsertion_80 (by decide) ?_
                obtain ⟨hfit, hw⟩ := hw
                refine zz_put C dJ29_balanceInsertion_81 (Or.inl q1690) zf_25_8_shMap_TreeNode zp_25_8 (zz_hn1 hfit) hw (fun M14 hw => ?_)
                refine zz_aload_n C dJ29_balanceInsertion_84 rfl 2 rfl ?_
                refine zz_astore_n (i := 1) (lv' := [(1, va_rf x4), (5, va_rf x10), (4, va_rf x5), (3, va_rf x4), (2, va_rf x2), (0, va_rf v0)]) C dJ29_balanceInsertion_85 rfl (by decide) (by simp [zz_cat, zz_catI, zz_catJ, zz_catD]) ?_
                refine zz_goto (tgt := 5) C dJ29_balanceInsertion_86 (by decide) ?_
                refine zz_subP [5, 0] rfl ?_
                exact ih _ _ _ _ _ hw
        · refine zz_subP [2] rfl ?_
          exact ok_J29_balanceInsertion_B37 C E hH hR hw
    · refine zz_aload_n C dJ29_balanceInsertion_14 rfl 2 rfl ?_
      refine zz_iconst (v := (0 : Int32)) C dJ29_balanceInsertion_15 (by decide) ?_
      obtain ⟨hfit, hw⟩ := hw
      refine zz_put C dJ29_balanceInsertion_16 (Or.inl q1690) zf_25_8_shMap_TreeNode zp_25_8 (zz_hn1 hfit) hw (fun M15 hw => ?_)
      refine zz_aload_n C dJ29_balanceInsertion_19 rfl 2 rfl ?_
      exact zz_aret C E (Or.inl ⟨_, rfl⟩) dJ29_balanceInsertion_20 hw
theorem ok_J29_balanceInsertion {Z : zzG} {l : Launch} (hl : l.stackTraces = false) {p0 : Option Nat} {p1 : Option Nat} {M : zzM} {mc ms : Nat} {K : Option Value → zzM → Prop} (hw : wp_J29_balanceInsertion Z p0 p1 M K) : zz_Met Z l yJ29_balanceInsertion (zz_ws yJ29_balanceInsertion cJ29_balanceInsertion 6 (some (.object "java/util/HashMap$TreeNode")) none) 2 [va_rf p0, va_rf p1] M mc ms K (fun _ _ _ => False) := by
  refine zz_ofW hl (plainFor_of_name (by decide)) (by simp only [zz_sl0, zz_slI, zz_slJ, zz_slA] <;> decide) (fun G hZ hll C E hH hR hin => ?_)
  subst hZ
  subst hll
  rw [show lv_args 0 [va_rf p0, va_rf p1] = [(0, va_rf p0), (1, va_rf p1)] by simp only [zz_la0, zz_laI, zz_laJ, zz_laA]]
  unfold wp_J29_balanceInsertion at hw
  refine zz_aload_n C dJ29_balanceInsertion_0 rfl 1 rfl ?_
  refine zz_iconst (v := (1 : Int32)) C dJ29_balanceInsertion_1 (by decide) ?_
  obtain ⟨hfit, hw⟩ := hw
  refine zz_put C dJ29_balanceInsertion_2 (Or.inl q1690) zf_25_8_shMap_TreeNode zp_25_8 (zz_hn1 hfit) hw (fun M1 hw => ?_)
  refine zz_subP [0, 1] rfl ?_
  obtain ⟨n5, hw⟩ := hw
  exact ok_J29_balanceInsertion_L5 C E hH hR n5 _ _ _ _ _ hw
abbrev cJ29_moveRootToFront : ByteArray := prog_65_method_3_code
def yJ29_moveRootToFront : MethodName := ⟨"java/util/HashMap$TreeNode", "moveRootToFront", "([Ljava/util/HashMap$Node;Ljava/util/HashMap$TreeNode;)V"⟩
def dkwJ29_moveRootToFront_5 : List UInt8 := [89, 183, 0, 36, 191, 177]
abbrev dktJ29_moveRootToFront_5 : List UInt8 := dkwJ29_moveRootToFront_5 ++ []
def dkwJ29_moveRootToFront_4 : List UInt8 := [181, 0, 22, 43, 1, 181, 0, 19, 178, 0, 26, 154, 0, 18, 43, 184, 0, 30, 154, 0, 11, 187, 0, 34]
abbrev dktJ29_moveRootToFront_4 : List UInt8 := dkwJ29_moveRootToFront_4 ++ dktJ29_moveRootToFront_5
def dkwJ29_moveRootToFront_3 : List UInt8 := [198, 0, 10, 25, 6, 25, 5, 181, 0, 22, 25, 4, 198, 0, 9, 25, 4, 43, 181, 0, 19, 43, 25, 4]
abbrev dktJ29_moveRootToFront_3 : List UInt8 := dkwJ29_moveRootToFront_3 ++ dktJ29_moveRootToFront_4
def dkwJ29_moveRootToFront_2 : List UInt8 := [43, 180, 0, 22, 89, 58, 5, 198, 0, 13, 25, 5, 192, 0, 10, 25, 6, 181, 0, 19, 25, 6]
abbrev dktJ29_moveRootToFront_2 : List UInt8 := dkwJ29_moveRootToFront_2 ++ dktJ29_moveRootToFront_3
def dkwJ29_moveRootToFront_1 : List UInt8 := [42, 29, 50, 192, 0, 10, 58, 4, 43, 25, 4, 165, 0, 67, 42, 29, 43, 83, 43, 180, 0, 19, 58, 6]
abbrev dktJ29_moveRootToFront_1 : List UInt8 := dkwJ29_moveRootToFront_1 ++ dktJ29_moveRootToFront_2
def dkwJ29_moveRootToFront_0 : List UInt8 := [43, 198, 0, 122, 42, 198, 0, 118, 42, 190, 89, 61, 158, 0, 111, 28, 4, 100, 43, 180, 0, 15, 126, 62]
abbrev dktJ29_moveRootToFront_0 : List UInt8 := dkwJ29_moveRootToFront_0 ++ dktJ29_moveRootToFront_1
theorem dksJ29_moveRootToFront_0 : cJ29_moveRootToFront.data.toList.drop 0 = dktJ29_moveRootToFront_0 := by decide +kernel
theorem dksJ29_moveRootToFront_1 : cJ29_moveRootToFront.data.toList.drop 24 = dktJ29_moveRootToFront_1 := dk_seg dksJ29_moveRootToFront_0 24 rfl rfl
theorem dksJ29_moveRootToFront_2 : cJ29_moveRootToFront.data.toList.drop 48 = dktJ29_moveRootToFront_2 := dk_seg dksJ29_moveRootToFront_1 24 rfl rfl
theorem dksJ29_moveRootToFront_3 : cJ29_moveRootToFront.data.toList.drop 70 = dktJ29_moveRootToFront_3 := dk_seg dksJ29_moveRootToFront_2 22 rfl rfl
theorem dksJ29_moveRootToFront_4 : cJ29_moveRootToFront.data.toList.drop 94 = dktJ29_moveRootToFront_4 := dk_seg dksJ29_moveRootToFront_3 24 rfl rfl
theorem dksJ29_moveRootToFront_5 : cJ29_moveRootToFront.data.toList.drop 118 = dktJ29_moveRootToFront_5 := dk_seg dksJ29_moveRootToFront_4 24 rfl rfl
theorem dJ29_moveRootToFront_0 : decode cJ29_moveRootToFront 0 = .ok (.aload_n 1, 1) := dk_43 (dk_at dksJ29_moveRootToFront_0 0 rfl rfl)
theorem dJ29_moveRootToFront_1 : decode cJ29_moveRootToFront 1 = .ok (.ifnull 122, 3) := dk_198 0 122 (dk_at dksJ29_moveRootToFront_0 1 rfl rfl)
theorem dJ29_moveRootToFront_4 : decode cJ29_moveRootToFront 4 = .ok (.aload_n 0, 1) := dk_42 (dk_at dksJ29_moveRootToFront_0 4 rfl rfl)
theorem dJ29_moveRootToFront_5 : decode cJ29_moveRootToFront 5 = .ok (.ifnull 118, 3) := dk_198 0 118 (dk_at dksJ29_moveRootToFront_0 5 rfl rfl)
theorem dJ29_moveRootToFront_8 : decode cJ29_moveRootToFront 8 = .ok (.aload_n 0, 1) := dk_42 (dk_at dksJ29_moveRootToFront_0 8 rfl rfl)
theorem dJ29_moveRootToFront_9 : decode cJ29_moveRootToFront 9 = .ok (.arraylength, 1) := dk_190 (dk_at dksJ29_moveRootToFront_0 9 rfl rfl)
theorem dJ29_moveRootToFront_10 : decode cJ29_moveRootToFront 10 = .ok (.dup, 1) := dk_89 (dk_at dksJ29_moveRootToFront_0 10 rfl rfl)
theorem dJ29_moveRootToFront_11 : decode cJ29_moveRootToFront 11 = .ok (.istore_n 2, 1) := dk_61 (dk_at dksJ29_moveRootToFront_0 11 rfl rfl)
theorem dJ29_moveRootToFront_12 : decode cJ29_moveRootToFront 12 = .ok (.ifCond .le 111, 3) := dk_158 0 111 (dk_at dksJ29_moveRootToFront_0 12 rfl rfl)
theorem dJ29_moveRootToFront_15 : decode cJ29_moveRootToFront 15 = .ok (.iload_n 2, 1) := dk_28 (dk_at dksJ29_moveRootToFront_0 15 rfl rfl)
theorem dJ29_moveRootToFront_16 : decode cJ29_moveRootToFront 16 = .ok (.iconst 1, 1) := dk_4 (dk_at dksJ29_moveRootToFront_0 16 rfl rfl)
theorem dJ29_moveRootToFront_17 : decode cJ29_moveRootToFront 17 = .ok (.isub, 1) := dk_100 (dk_at dksJ29_moveRootToFront_0 17 rfl rfl)
theorem dJ29_moveRootToFront_18 : decode cJ29_moveRootToFront 18 = .ok (.aload_n 1, 1) := dk_43 (dk_at dksJ29_moveRootToFront_0 18 rfl rfl)
theorem dJ29_moveRootToFront_19 : decode cJ29_moveRootToFront 19 = .ok (.getfield 15, 3) := dk_180 0 15 (dk_at dksJ29_moveRootToFront_0 19 rfl rfl)
theorem dJ29_moveRootToFront_22 : decode cJ29_moveRootToFront 22 = .ok (.iand, 1) := dk_126 (dk_at dksJ29_moveRootToFront_0 22 rfl rfl)
theorem dJ29_moveRootToFront_23 : decode cJ29_moveRootToFront 23 = .ok (.istore_n 3, 1) := dk_62 (dk_at dksJ29_moveRootToFront_0 23 rfl rfl)
theorem dJ29_moveRootToFront_24 : decode cJ29_moveRootToFront 24 = .ok (.aload_n 0, 1) := dk_42 (dk_at dksJ29_moveRootToFront_1 0 rfl rfl)
theorem dJ29_moveRootToFront_25 : decode cJ29_moveRootToFront 25 = .ok (.iload_n 3, 1) := dk_29 (dk_at dksJ29_moveRootToFront_1 1 rfl rfl)
theorem dJ29_moveRootToFront_26 : decode cJ29_moveRootToFront 26 = .ok (.aaload, 1) := dk_50 (dk_at dksJ29_moveRootToFront_1 2 rfl rfl)
theorem dJ29_moveRootToFront_27 : decode cJ29_moveRootToFront 27 = .ok (.checkcast 10, 3) := dk_192 0 10 (dk_at dksJ29_moveRootToFront_1 3 rfl rfl)
theorem dJ29_moveRootToFront_30 : decode cJ29_moveRootToFront 30 = .ok (.astore 4, 2) := dk_58 4 (dk_at dksJ29_moveRootToFront_1 6 rfl rfl)
theorem dJ29_moveRootToFront_32 : decode cJ29_moveRootToFront 32 = .ok (.aload_n 1, 1) := dk_43 (dk_at dksJ29_moveRootToFront_1 8 rfl rfl)
theorem dJ29_moveRootToFront_33 : decode cJ29_moveRootToFront 33 = .ok (.aload 4, 2) := dk_25 4 (dk_at dksJ29_moveRootToFront_1 9 rfl rfl)
theorem dJ29_moveRootToFront_35 : decode cJ29_moveRootToFront 35 = .ok (.if_acmp .eq 67, 3) := dk_165 0 67 (dk_at dksJ29_moveRootToFront_1 11 rfl rfl)
theorem dJ29_moveRootToFront_38 : decode cJ29_moveRootToFront 38 = .ok (.aload_n 0, 1) := dk_42 (dk_at dksJ29_moveRootToFront_1 14 rfl rfl)
theorem dJ29_moveRootToFront_39 : decode cJ29_moveRootToFront 39 = .ok (.iload_n 3, 1) := dk_29 (dk_at dksJ29_moveRootToFront_1 15 rfl rfl)
theorem dJ29_moveRootToFront_40 : decode cJ29_moveRootToFront 40 = .ok (.aload_n 1, 1) := dk_43 (dk_at dksJ29_moveRootToFront_1 16 rfl rfl)
theorem dJ29_moveRootToFront_41 : decode cJ29_moveRootToFront 41 = .ok (.aastore, 1) := dk_83 (dk_at dksJ29_moveRootToFront_1 17 rfl rfl)
theorem dJ29_moveRootToFront_42 : decode cJ29_moveRootToFront 42 = .ok (.aload_n 1, 1) := dk_43 (dk_at dksJ29_moveRootToFront_1 18 rfl rfl)
theorem dJ29_moveRootToFront_43 : decode cJ29_moveRootToFront 43 = .ok (.getfield 19, 3) := dk_180 0 19 (dk_at dksJ29_moveRootToFront_1 19 rfl rfl)
theorem dJ29_moveRootToFront_46 : decode cJ29_moveRootToFront 46 = .ok (.astore 6, 2) := dk_58 6 (dk_at dksJ29_moveRootToFront_1 22 rfl rfl)
theorem dJ29_moveRootToFront_48 : decode cJ29_moveRootToFront 48 = .ok (.aload_n 1, 1) := dk_43 (dk_at dksJ29_moveRootToFront_2 0 rfl rfl)
theorem dJ29_moveRootToFront_49 : decode cJ29_moveRootToFront 49 = .ok (.getfield 22, 3) := dk_180 0 22 (dk_at dksJ29_moveRootToFront_2 1 rfl rfl)
theorem dJ29_moveRootToFront_52 : decode cJ29_moveRootToFront 52 = .ok (.dup, 1) := dk_89 (dk_at dksJ29_moveRootToFront_2 4 rfl rfl)
theorem dJ29_moveRootToFront_53 : decode cJ29_moveRootToFront 53 = .ok (.astore 5, 2) := dk_58 5 (dk_at dksJ29_moveRootToFront_2 5 rfl rfl)
theorem dJ29_moveRootToFront_55 : decode cJ29_moveRootToFront 55 = .ok (.ifnull 13, 3) := dk_198 0 13 (dk_at dksJ29_moveRootToFront_2 7 rfl rfl)
theorem dJ29_moveRootToFront_58 : decode cJ29_moveRootToFront 58 = .ok (.aload 5, 2) := dk_25 5 (dk_at dksJ29_moveRootToFront_2 10 rfl rfl)
theorem dJ29_moveRootToFront_60 : decode cJ29_moveRootToFront 60 = .ok (.checkcast 10, 3) := dk_192 0 10 (dk_at dksJ29_moveRootToFront_2 12 rfl rfl)
theorem dJ29_moveRootToFront_63 : decode cJ29_moveRootToFront 63 = .ok (.aload 6, 2) := dk_25 6 (dk_at dksJ29_moveRootToFront_2 15 rfl rfl)
theorem dJ29_moveRootToFront_65 : decode cJ29_moveRootToFront 65 = .ok (.putfield 19, 3) := dk_181 0 19 (dk_at dksJ29_moveRootToFront_2 17 rfl rfl)
theorem dJ29_moveRootToFront_68 : decode cJ29_moveRootToFront 68 = .ok (.aload 6, 2) := dk_25 6 (dk_at dksJ29_moveRootToFront_2 20 rfl rfl)
theorem dJ29_moveRootToFront_70 : decode cJ29_moveRootToFront 70 = .ok (.ifnull 10, 3) := dk_198 0 10 (dk_at dksJ29_moveRootToFront_3 0 rfl rfl)
theorem dJ29_moveRootToFront_73 : decode cJ29_moveRootToFront 73 = .ok (.aload 6, 2) := dk_25 6 (dk_at dksJ29_moveRootToFront_3 3 rfl rfl)
theorem dJ29_moveRootToFront_75 : decode cJ29_moveRootToFront 75 = .ok (.aload 5, 2) := dk_25 5 (dk_at dksJ29_moveRootToFront_3 5 rfl rfl)
theorem dJ29_moveRootToFront_77 : decode cJ29_moveRootToFront 77 = .ok (.putfield 22, 3) := dk_181 0 22 (dk_at dksJ29_moveRootToFront_3 7 rfl rfl)
theorem dJ29_moveRootToFront_80 : decode cJ29_moveRootToFront 80 = .ok (.aload 4, 2) := dk_25 4 (dk_at dksJ29_moveRootToFront_3 10 rfl rfl)
theorem dJ29_moveRootToFront_82 : decode cJ29_moveRootToFront 82 = .ok (.ifnull 9, 3) := dk_198 0 9 (dk_at dksJ29_moveRootToFront_3 12 rfl rfl)
theorem dJ29_moveRootToFront_85 : decode cJ29_moveRootToFront 85 = .ok (.aload 4, 2) := dk_25 4 (dk_at dksJ29_moveRootToFront_3 15 rfl rfl)
theorem dJ29_moveRootToFront_87 : decode cJ29_moveRootToFront 87 = .ok (.aload_n 1, 1) := dk_43 (dk_at dksJ29_moveRootToFront_3 17 rfl rfl)
theorem dJ29_moveRootToFront_88 : decode cJ29_moveRootToFront 88 = .ok (.putfield 19, 3) := dk_181 0 19 (dk_at dksJ29_moveRootToFront_3 18 rfl rfl)
theorem dJ29_moveRootToFront_91 : decode cJ29_moveRootToFront 91 = .ok (.aload_n 1, 1) := dk_43 (dk_at dksJ29_moveRootToFront_3 21 rfl rfl)
theorem dJ29_moveRootToFront_92 : decode cJ29_moveRootToFront 92 = .ok (.aload 4, 2) := dk_25 4 (dk_at dksJ29_moveRootToFront_3 22 rfl rfl)
theorem dJ29_moveRootToFront_94 : decode cJ29_moveRootToFront 94 = .ok (.putfield 22, 3) := dk_181 0 22 (dk_at dksJ29_moveRootToFront_4 0 rfl rfl)
theorem dJ29_moveRootToFront_97 : decode cJ29_moveRootToFront 97 = .ok (.aload_n 1, 1) := dk_43 (dk_at dksJ29_moveRootToFront_4 3 rfl rfl)
theorem dJ29_moveRootToFront_98 : decode cJ29_moveRootToFront 98 = .ok (.aconst_null, 1) := dk_1 (dk_at dksJ29_moveRootToFront_4 4 rfl rfl)
theorem dJ29_moveRootToFront_99 : decode cJ29_moveRootToFront 99 = .ok (.putfield 19, 3) := dk_181 0 19 (dk_at dksJ29_moveRootToFront_4 5 rfl rfl)
theorem dJ29_moveRootToFront_102 : decode cJ29_moveRootToFront 102 = .ok (.getstatic 26, 3) := dk_178 0 26 (dk_at dksJ29_moveRootToFront_4 8 rfl rfl)
theorem dJ29_moveRootToFront_105 : decode cJ29_moveRootToFront 105 = .ok (.ifCond .ne 18, 3) := dk_154 0 18 (dk_at dksJ29_moveRootToFront_4 11 rfl rfl)
theorem dJ29_moveRootToFront_108 : decode cJ29_moveRootToFront 108 = .ok (.aload_n 1, 1) := dk_43 (dk_at dksJ29_moveRootToFront_4 14 rfl rfl)
theorem dJ29_moveRootToFront_109 : decode cJ29_moveRootToFront 109 = .ok (.invokestatic 30, 3) := dk_184 0 30 (dk_at dksJ29_moveRootToFront_4 15 rfl rfl)
theorem dJ29_moveRootToFront_123 : decode cJ29_moveRootToFront 123 = .ok (.return_, 1) := dk_177 (dk_at dksJ29_moveRootToFront_5 5 rfl rfl)
theorem q1355 : (Jvm.Cond.sameField "java/util/HashMap$TreeNode" "java/util/HashMap$Node" "hash" "I") ∈ lw_all := lw_g (lw_at lw_m6 75 rfl) rfl
theorem zf_25_0_shMap_TreeNode : zz_fok [25] 0 "java/util/HashMap$TreeNode" "hash" "I" := zz_fok1 (zR_25, zT_25, 11) rfl (by decide) rfl rfl (Or.inr q1355)
theorem q1354 : (Jvm.Cond.fieldLink "java/util/HashMap$TreeNode" (15 : Nat) "java/util/HashMap$TreeNode" "hash" "I") ∈ lw_all := lw_g (lw_at lw_m6 74 rfl) rfl
theorem q1339 : (Jvm.Cond.classLink "java/util/HashMap$TreeNode" (10 : Nat) "java/util/HashMap$TreeNode") ∈ lw_all := lw_g (lw_at lw_m6 59 rfl) rfl
theorem zf_25_7_shMap_TreeNode : zz_fok [25] 7 "java/util/HashMap$TreeNode" "prev" "Ljava/util/HashMap$TreeNode;" := zz_fok1 (zR_25, zT_25, 11) rfl (by decide) rfl rfl (Or.inl rfl)
theorem q1688 : (Jvm.Cond.fieldLink "java/util/HashMap$TreeNode" (19 : Nat) "java/util/HashMap$TreeNode" "prev" "Ljava/util/HashMap$TreeNode;") ∈ lw_all := lw_g (lw_at lw_m7 168 rfl) rfl
theorem q1365 : (Jvm.Cond.sameField "java/util/HashMap$TreeNode" "java/util/HashMap$Node" "next" "Ljava/util/HashMap$Node;") ∈ lw_all := lw_g (lw_at lw_m6 85 rfl) rfl
theorem zf_25_3_shMap_TreeNode : zz_fok [25] 3 "java/util/HashMap$TreeNode" "next" "Ljava/util/HashMap$Node;" := zz_fok1 (zR_25, zT_25, 11) rfl (by decide) rfl rfl (Or.inr q1365)
theorem q1364 : (Jvm.Cond.fieldLink "java/util/HashMap$TreeNode" (22 : Nat) "java/util/HashMap$TreeNode" "next" "Ljava/util/HashMap$Node;") ∈ lw_all := lw_g (lw_at lw_m6 84 rfl) rfl
theorem zp_25_7 : zz_pok [25] 7 := zz_pok1 (zR_25, zT_25, 11) (by decide) rfl rfl
theorem zp_25_3 : zz_pok [25] 3 := zz_pok1 (zR_25, zT_25, 11) (by decide) rfl rfl
theorem q1616 : (Jvm.Cond.fieldLink "java/util/HashMap$TreeNode" (26 : Nat) "java/util/HashMap$TreeNode" "$assertionsDisabled" "Z") ∈ lw_all := lw_g (lw_at lw_m7 96 rfl) rfl
def wp_J29_moveRootToFront_B123 (Z : zzG) (K : Option Value → zzM → Prop) (M : zzM) : Prop := K none M
def wp_J29_moveRootToFront_B102 (Z : zzG) (K : Option Value → zzM → Prop) (v1 : Option Nat) (M : zzM) : Prop := if (1 : Int32) = 0 then (False) else (wp_J29_moveRootToFront_B123 Z K M)
def wp_J29_moveRootToFront_B91 (Z : zzG) (K : Option Value → zzM → Prop) (v1 : Option Nat) (v4 : Option Nat) (M : zzM) : Prop := zput Z M v1 [25] 3 (va_rf v4) fun M10 => zput Z M10 v1 [25] 7 (va_rf none) fun M11 => wp_J29_moveRootToFront_B102 Z K v1 M11
def wp_J29_moveRootToFront_B80 (Z : zzG) (K : Option Value → zzM → Prop) (v1 : Option Nat) (v4 : Option Nat) (M : zzM) : Prop := if v4 = none then (wp_J29_moveRootToFront_B91 Z K v1 v4 M) else (zput Z M v4 [25] 7 (va_rf v1) fun M9 => wp_J29_moveRootToFront_B91 Z K v1 v4 M9)
def wp_J29_moveRootToFront_B68 (Z : zzG) (K : Option Value → zzM → Prop) (v1 : Option Nat) (v4 : Option Nat) (v5 : Option Nat) (v6 : Option Nat) (M : zzM) : Prop := if v6 = none then (wp_J29_moveRootToFront_B80 Z K v1 v4 M) else (zput Z M v6 [25] 3 (va_rf v5) fun M8 => wp_J29_moveRootToFront_B80 Z K v1 v4 M8)
def wp_J29_moveRootToFront (Z : zzG) (p0 : Option Nat) (p1 : Option Nat) (M : zzM) (K : Option Value → zzM → Prop) : Prop := if p1 = none then (wp_J29_moveRootToFront_B123 Z K M) else (if p0 = none then (wp_J29_moveRootToFront_B123 Z K M) else (zlen Z M p0 fun x1 => if x1 ≤ 0 then (wp_J29_moveRootToFront_B123 Z K M) else (zgI Z M p1 [25] 0 fun x2 => zaA Z M p0 [103, 104, 105] ((x1 - (1 : Int32)) &&& x2) fun x3 => zcast Z M x3 [25] <| if p1 = x3 then (wp_J29_moveRootToFront_B102 Z K p1 M) else (zastA Z M p0 ((x1 - (1 : Int32)) &&& x2) p1 fun M4 => zgA Z M4 p1 [25] 7 fun x5 => zgA Z M4 p1 [25] 3 fun x6 => if x6 = none then (wp_J29_moveRootToFront_B68 Z K p1 x3 x6 x5 M4) else (zcast Z M4 x6 [25] <| zput Z M4 x6 [25] 7 (va_rf x5) fun M7 => wp_J29_moveRootToFront_B68 Z K p1 x3 x6 x5 M7)))))
theorem ok_J29_moveRootToFront_B123 {G : zzX} (C : zz_C G cJ29_moveRootToFront "java/util/HashMap$TreeNode" 7) {K : Option Value → zzM → Prop} (E : zz_E G none K (fun _ _ _ => False)) (hH : zz_H G []) (hR : zz_Rm G 1) {M : zzM} {bc bs : Nat} (hw : wp_J29_moveRootToFront_B123 (zz_Zof G) K M) : zz_T G 7 M bc bs 123 [] [] := by
  unfold wp_J29_moveRootToFront_B123 at hw
  exact zz_vret C E dJ29_moveRootToFront_123 hw
theorem ok_J29_moveRootToFront_B102 {G : zzX} (C : zz_C G cJ29_moveRootToFront "java/util/HashMap$TreeNode" 7) {K : Option Value → zzM → Prop} (E : zz_E G none K (fun _ _ _ => False)) (hH : zz_H G []) (hR : zz_Rm G 1) {v1 : Option Nat} {M : zzM} {bc bs : Nat} (hw : wp_J29_moveRootToFront_B102 (zz_Zof G) K v1 M) : zz_T G 7 M bc bs 102 [(1, va_rf v1)] [] := by
  unfold wp_J29_moveRootToFront_B102 at hw
  refine zz_gets (j := 25) (v := .int (1 : Int32)) C dJ29_moveRootToFront_102 (Or.inl q1616) rfl (Or.inl rfl) rfl ?_
  refine zz_if_ne (tgt := 123) C dJ29_moveRootToFront_105 (by decide) hw (fun hw => ?_) (fun hw => ?_)
  · refine zz_subP [] rfl ?_
    exact ok_J29_moveRootToFront_B123 C E hH hR hw
  · refine zz_aload_n C dJ29_moveRootToFront_108 rfl 0 rfl ?_
    exact hw.elim
theorem ok_J29_moveRootToFront_B91 {G : zzX} (C : zz_C G cJ29_moveRootToFront "java/util/HashMap$TreeNode" 7) {K : Option Value → zzM → Prop} (E : zz_E G none K (fun _ _ _ => False)) (hH : zz_H G []) (hR : zz_Rm G 1) {v1 : Option Nat} {v4 : Option Nat} {M : zzM} {bc bs : Nat} (hw : wp_J29_moveRootToFront_B91 (zz_Zof G) K v1 v4 M) : zz_T G 7 M bc bs 91 [(1, va_rf v1), (4, va_rf v4)] [] := by
  unfold wp_J29_moveRootToFront_B91 at hw
  refine zz_aload_n C dJ29_moveRootToFront_91 rfl 0 rfl ?_
  refine zz_aload C dJ29_moveRootToFront_92 1 rfl ?_
  refine zz_put C dJ29_moveRootToFront_94 (Or.inl q1364) zf_25_3_shMap_TreeNode zp_25_3 (zz_hn1 (zz_nA _ rfl v4)) hw (fun M10 hw => ?_)
  refine zz_aload_n C dJ29_moveRootToFront_97 rfl 0 rfl ?_
  refine zz_null C dJ29_moveRootToFront_98 ?_
  refine zz_put C dJ29_moveRootToFront_99 (Or.inl q1688) zf_25_7_shMap_TreeNode zp_25_7 (zz_hn1 (zz_nA _ rfl none)) hw (fun M11 hw => ?_)
  refine zz_subP [0] rfl ?_
  exact ok_J29_moveRootToFront_B102 C E hH hR hw
theorem ok_J29_moveRootToFront_B80 {G : zzX} (C : zz_C G cJ29_moveRootToFront "java/util/HashMap$TreeNode" 7) {K : Option Value → zzM → Prop} (E : zz_E G none K (fun _ _ _ => False)) (hH : zz_H G []) (hR : zz_Rm G 1) {v1 : Option Nat} {v4 : Option Nat} {M : zzM} {bc bs : Nat} (hw : wp_J29_moveRootToFront_B80 (zz_Zof G) K v1 v4 M) : zz_T G 7 M bc bs 80 [(1, va_rf v1), (4, va_rf v4)] [] := by
  unfold wp_J29_moveRootToFront_B80 at hw
  refine zz_aload C dJ29_moveRootToFront_80 1 rfl ?_
  refine zz_ifnull (tgt := 91) C dJ29_moveRootToFront_82 (by decide) hw (fun hw => ?_) (fun hw => ?_)
  · refine zz_subP [0, 1] rfl ?_
    exact ok_J29_moveRootToFront_B91 C E hH hR hw
  · refine zz_aload C dJ29_moveRootToFront_85 1 rfl ?_
    refine zz_aload_n C dJ29_moveRootToFront_87 rfl 0 rfl ?_
    refine zz_put C dJ29_moveRootToFront_88 (Or.inl q1688) zf_25_7_shMap_TreeNode zp_25_7 (zz_hn1 (zz_nA _ rfl v1)) hw (fun M9 hw => ?_)
    refine zz_subP [0, 1] rfl ?_
    exact ok_J29_moveRootToFront_B91 C E hH hR hw
theorem ok_J29_moveRootToFront_B68 {G : zzX} (C : zz_C G cJ29_moveRootToFront "java/util/HashMap$TreeNode" 7) {K : Option Value → zzM → Prop} (E : zz_E G none K (fun _ _ _ => False)) (hH : zz_H G []) (hR : zz_Rm G 1) {v1 : Option Nat} {v4 : Option Nat} {v5 : Option Nat} {v6 : Option Nat} {M : zzM} {bc bs : Nat} (hw : wp_J29_moveRootToFront_B68 (zz_Zof G) K v1 v4 v5 v6 M) : zz_T G 7 M bc bs 68 [(1, va_rf v1), (4, va_rf v4), (5, va_rf v5), (6, va_rf v6)] [] := by
  unfold wp_J29_moveRootToFront_B68 at hw
  refine zz_aload C dJ29_moveRootToFront_68 3 rfl ?_
  refine zz_ifnull (tgt := 80) C dJ29_moveRootToFront_70 (by decide) hw (fun hw => ?_) (fun hw => ?_)
  · refine zz_subP [0, 1] rfl ?_
    exact ok_J29_moveRootToFront_B80 C E hH hR hw
  · refine zz_aload C dJ29_moveRootToFront_73 3 rfl ?_
    refine zz_aload C dJ29_moveRootToFront_75 2 rfl ?_
    refine zz_put C dJ29_moveRootToFront_77 (Or.inl q1364) zf_25_3_shMap_TreeNode zp_25_3 (zz_hn1 (zz_nA _ rfl v5)) hw (fun M8 hw => ?_)
    refine zz_subP [0, 1] rfl ?_
    exact ok_J29_moveRootToFront_B80 C E hH hR hw
theorem ok_J29_moveRootToFront {Z : zzG} {l : Launch} (hl : l.stackTraces = false) {p0 : Option Nat} {p1 : Option Nat} {M : zzM} {mc ms : Nat} {K : Option Value → zzM → Prop} (hw : wp_J29_moveRootToFront Z p0 p1 M K) : zz_Met Z l yJ29_moveRootToFront (zz_ws yJ29_moveRootToFront cJ29_moveRootToFront 7 none none) 1 [va_rf p0, va_rf p1] M mc ms K (fun _ _ _ => False) := by
  refine zz_ofW hl (plainFor_of_name (by decide)) (by simp only [zz_sl0, zz_slI, zz_slJ, zz_slA] <;> decide) (fun G hZ hll C E hH hR hin => ?_)
  subst hZ
  subst hll
  rw [show lv_args 0 [va_rf p0, va_rf p1] = [(0, va_rf p0), (1, va_rf p1)] by simp only [zz_la0, zz_laI, zz_laJ, zz_laA]]
  unfold wp_J29_moveRootToFront at hw
  refine zz_aload_n C dJ29_moveRootToFront_0 rfl 1 rfl ?_
  refine zz_ifnull (tgt := 123) C dJ29_moveRootToFront_1 (by decide) hw (fun hw => ?_) (fun hw => ?_)
  · refine zz_subP [] rfl ?_
    exact ok_J29_moveRootToFront_B123 C E hH hR hw
  · refine zz_aload_n C dJ29_moveRootToFront_4 rfl 0 rfl ?_
    refine zz_ifnull (tgt := 123) C dJ29_moveRootToFront_5 (by decide) hw (fun hw => ?_) (fun hw => ?_)
    · refine zz_subP [] rfl ?_
      exact ok_J29_moveRootToFront_B123 C E hH hR hw
    · refine zz_aload_n C dJ29_moveRootToFront_8 rfl 0 rfl ?_
      refine zz_alen C dJ29_moveRootToFront_9 hw (fun x1 hw => ?_)
      refine zz_dup C dJ29_moveRootToFront_10 rfl ?_
      refine zz_istore_n (i := 2) (lv' := [(2, .int x1), (0, va_rf p0), (1, va_rf p1)]) C dJ29_moveRootToFront_11 rfl (by decide) (by simp [zz_cat, zz_catI, zz_catJ, zz_catD]) ?_
      refine zz_if_le (tgt := 123) C dJ29_moveRootToFront_12 (by decide) hw (fun hw => ?_) (fun hw => ?_)
      · refine zz_subP [] rfl ?_
        exact ok_J29_moveRootToFront_B123 C E hH hR hw
      · refine zz_iload_n C dJ29_moveRootToFront_15 rfl 0 rfl ?_
        refine zz_iconst (v := (1 : Int32)) C dJ29_moveRootToFront_16 (by decide) ?_
        refine zz_isub C dJ29_moveRootToFront_17 ?_
        refine zz_aload_n C dJ29_moveRootToFront_18 rfl 2 rfl ?_
        refine zz_getI C dJ29_moveRootToFront_19 (Or.inl q1354) zf_25_0_shMap_TreeNode hw (fun x2 hw => ?_)
        refine zz_iand C dJ29_moveRootToFront_22 ?_
        refine zz_istore_n (i := 3) (lv' := [(3, .int ((x1 - (1 : Int32)) &&& x2)), (2, .int x1), (0, va_rf p0), (1, va_rf p1)]) C dJ29_moveRootToFront_23 rfl (by decide) rfl ?_
        refine zz_aload_n C dJ29_moveRootToFront_24 rfl 2 rfl ?_
        refine zz_iload_n C dJ29_moveRootToFront_25 rfl 0 rfl ?_
        refine zz_aald C dJ29_moveRootToFront_26 hw (fun x3 hw => ?_)
        refine zz_cast C dJ29_moveRootToFront_27 q1339 zc_25_shMap_TreeNode hw (fun hw => ?_)
        refine zz_astore (lv' := [(4, va_rf x3), (3, .int ((x1 - (1 : Int32)) &&& x2)), (2, .int x1), (0, va_rf p0), (1, va_rf p1)]) C dJ29_moveRootToFront_30 (by decide) rfl ?_
        refine zz_aload_n C dJ29_moveRootToFront_32 rfl 4 rfl ?_
        refine zz_aload C dJ29_moveRootToFront_33 0 rfl ?_
        refine zz_acmp_eq (tgt := 102) C dJ29_moveRootToFront_35 (by decide) hw (fun hw => ?_) (fun hw => ?_)
        · refine zz_subP [4] rfl ?_
          exact ok_J29_moveRootToFront_B102 C E hH hR hw
        · refine zz_aload_n C dJ29_moveRootToFront_38 rfl 3 rfl ?_
          refine zz_iload_n C dJ29_moveRootToFront_39 rfl 1 rfl ?_
          refine zz_aload_n C dJ29_moveRootToFront_40 rfl 4 rfl ?_
          refine zz_aast C dJ29_moveRootToFront_41 hw (fun M4 hw => ?_)
          refine zz_aload_n C dJ29_moveRootToFront_42 rfl 4 rfl ?_
          refine zz_getA C dJ29_moveRootToFront_43 (Or.inl q1688) zf_25_7_shMap_TreeNode hw (fun x5 hw => ?_)
          refine zz_astore (lv' := [(6, va_rf x5), (4, va_rf x3), (3, .int ((x1 - (1 : Int32)) &&& x2)), (2, .int x1), (0, va_rf p0), (1, va_rf p1)]) C dJ29_moveRootToFront_46 (by decide) rfl ?_
          refine zz_aload_n C dJ29_moveRootToFront_48 rfl 5 rfl ?_
          refine zz_getA C dJ29_moveRootToFront_49 (Or.inl q1364) zf_25_3_shMap_TreeNode hw (fun x6 hw => ?_)
          refine zz_dup C dJ29_moveRootToFront_52 (zz_cat _) ?_
          refine zz_astore (lv' := [(5, va_rf x6), (6, va_rf x5), (4, va_rf x3), (3, .int ((x1 - (1 : Int32)) &&& x2)), (2, .int x1), (0, va_rf p0), (1, va_rf p1)]) C dJ29_moveRootToFront_53 (by decide) (by simp [zz_cat, zz_catI, zz_catJ, zz_catD]) ?_
          refine zz_ifnull (tgt := 68) C dJ29_moveRootToFront_55 (by decide) hw (fun hw => ?_) (fun hw => ?_)
          · refine zz_subP [6, 2, 0, 1] rfl ?_
            exact ok_J29_moveRootToFront_B68 C E hH hR hw
          · refine zz_aload C dJ29_moveRootToFront_58 0 rfl ?_
            refine zz_cast C dJ29_moveRootToFront_60 q1339 zc_25_shMap_TreeNode hw (fun hw => ?_)
            refine zz_aload C dJ29_moveRootToFront_63 1 rfl ?_
            refine zz_put C dJ29_moveRootToFront_65 (Or.inl q1688) zf_25_7_shMap_TreeNode zp_25_7 (zz_hn1 (zz_nA _ rfl x5)) hw (fun M7 hw => ?_)
            refine zz_subP [6, 2, 0, 1] rfl ?_
            exact ok_J29_moveRootToFront_B68 C E hH hR hw
