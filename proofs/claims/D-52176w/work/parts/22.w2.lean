set_option maxRecDepth 100000
abbrev cX4_counted : ByteArray := prog_25_method_47_code
def yX4_counted : MethodName := ⟨"DebateHallModel", "counted", "(I)I"⟩
def dkwX4_counted_7 : List UInt8 := [180, 1, 75, 79, 58, 5, 25, 5, 27, 46, 172]
abbrev dktX4_counted_7 : List UInt8 := dkwX4_counted_7 ++ []
def dkwX4_counted_6 : List UInt8 := [21, 4, 79, 89, 16, 9, 42, 180, 1, 72, 79, 89, 16, 10, 42, 180, 0, 145, 79, 89, 16, 11, 42]
abbrev dktX4_counted_6 : List UInt8 := dkwX4_counted_6 ++ dktX4_counted_7
def dkwX4_counted_5 : List UInt8 := [79, 89, 8, 45, 4, 46, 79, 89, 16, 6, 45, 5, 46, 79, 89, 16, 7, 45, 3, 46, 79, 89, 16, 8]
abbrev dktX4_counted_5 : List UInt8 := dkwX4_counted_5 ++ dktX4_counted_6
def dkwX4_counted_4 : List UInt8 := [180, 0, 48, 180, 0, 95, 79, 89, 5, 44, 3, 46, 79, 89, 6, 44, 4, 46, 79, 89, 7, 44, 5, 46]
abbrev dktX4_counted_4 : List UInt8 := dkwX4_counted_4 ++ dktX4_counted_5
def dkwX4_counted_3 : List UInt8 := [132, 5, 1, 167, 255, 197, 16, 12, 188, 10, 89, 3, 42, 180, 0, 48, 180, 0, 88, 79, 89, 4, 42]
abbrev dktX4_counted_3 : List UInt8 := dkwX4_counted_3 ++ dktX4_counted_4
def dkwX4_counted_2 : List UInt8 := [21, 5, 46, 92, 46, 4, 96, 79, 21, 4, 42, 180, 0, 48, 180, 0, 98, 21, 5, 46, 96, 54, 4]
abbrev dktX4_counted_2 : List UInt8 := dkwX4_counted_2 ++ dktX4_counted_3
def dkwX4_counted_1 : List UInt8 := [162, 0, 53, 44, 42, 180, 0, 48, 180, 0, 124, 21, 5, 46, 92, 46, 4, 96, 79, 45, 42, 180, 0, 55]
abbrev dktX4_counted_1 : List UInt8 := dkwX4_counted_1 ++ dktX4_counted_2
def dkwX4_counted_0 : List UInt8 := [6, 188, 10, 77, 6, 188, 10, 78, 3, 54, 4, 3, 54, 5, 21, 5, 42, 180, 0, 48, 180, 0, 95]
abbrev dktX4_counted_0 : List UInt8 := dkwX4_counted_0 ++ dktX4_counted_1
theorem dksX4_counted_0 : cX4_counted.data.toList.drop 0 = dktX4_counted_0 := by decide +kernel
theorem dksX4_counted_1 : cX4_counted.data.toList.drop 23 = dktX4_counted_1 := dk_seg dksX4_counted_0 23 rfl rfl
theorem dksX4_counted_2 : cX4_counted.data.toList.drop 47 = dktX4_counted_2 := dk_seg dksX4_counted_1 24 rfl rfl
theorem dksX4_counted_3 : cX4_counted.data.toList.drop 70 = dktX4_counted_3 := dk_seg dksX4_counted_2 23 rfl rfl
theorem dksX4_counted_4 : cX4_counted.data.toList.drop 93 = dktX4_counted_4 := dk_seg dksX4_counted_3 23 rfl rfl
theorem dksX4_counted_5 : cX4_counted.data.toList.drop 117 = dktX4_counted_5 := dk_seg dksX4_counted_4 24 rfl rfl
theorem dksX4_counted_6 : cX4_counted.data.toList.drop 141 = dktX4_counted_6 := dk_seg dksX4_counted_5 24 rfl rfl
theorem dksX4_counted_7 : cX4_counted.data.toList.drop 164 = dktX4_counted_7 := dk_seg dksX4_counted_6 23 rfl rfl
theorem dX4_counted_0 : decode cX4_counted 0 = .ok (.iconst 3, 1) := dk_6 (dk_at dksX4_counted_0 0 rfl rfl)
theorem dX4_counted_1 : decode cX4_counted 1 = .ok (.newarray .int, 2) := dk_188_10 (dk_at dksX4_counted_0 1 rfl rfl)
theorem dX4_counted_3 : decode cX4_counted 3 = .ok (.astore_n 2, 1) := dk_77 (dk_at dksX4_counted_0 3 rfl rfl)
theorem dX4_counted_4 : decode cX4_counted 4 = .ok (.iconst 3, 1) := dk_6 (dk_at dksX4_counted_0 4 rfl rfl)
theorem dX4_counted_5 : decode cX4_counted 5 = .ok (.newarray .int, 2) := dk_188_10 (dk_at dksX4_counted_0 5 rfl rfl)
theorem dX4_counted_7 : decode cX4_counted 7 = .ok (.astore_n 3, 1) := dk_78 (dk_at dksX4_counted_0 7 rfl rfl)
theorem dX4_counted_8 : decode cX4_counted 8 = .ok (.iconst 0, 1) := dk_3 (dk_at dksX4_counted_0 8 rfl rfl)
theorem dX4_counted_9 : decode cX4_counted 9 = .ok (.istore 4, 2) := dk_54 4 (dk_at dksX4_counted_0 9 rfl rfl)
theorem dX4_counted_11 : decode cX4_counted 11 = .ok (.iconst 0, 1) := dk_3 (dk_at dksX4_counted_0 11 rfl rfl)
theorem dX4_counted_12 : decode cX4_counted 12 = .ok (.istore 5, 2) := dk_54 5 (dk_at dksX4_counted_0 12 rfl rfl)
theorem dX4_counted_14 : decode cX4_counted 14 = .ok (.iload 5, 2) := dk_21 5 (dk_at dksX4_counted_0 14 rfl rfl)
theorem dX4_counted_16 : decode cX4_counted 16 = .ok (.aload_n 0, 1) := dk_42 (dk_at dksX4_counted_0 16 rfl rfl)
theorem dX4_counted_17 : decode cX4_counted 17 = .ok (.getfield 48, 3) := dk_180 0 48 (dk_at dksX4_counted_0 17 rfl rfl)
theorem dX4_counted_20 : decode cX4_counted 20 = .ok (.getfield 95, 3) := dk_180 0 95 (dk_at dksX4_counted_0 20 rfl rfl)
theorem dX4_counted_23 : decode cX4_counted 23 = .ok (.if_icmp .ge 53, 3) := dk_162 0 53 (dk_at dksX4_counted_1 0 rfl rfl)
theorem dX4_counted_26 : decode cX4_counted 26 = .ok (.aload_n 2, 1) := dk_44 (dk_at dksX4_counted_1 3 rfl rfl)
theorem dX4_counted_27 : decode cX4_counted 27 = .ok (.aload_n 0, 1) := dk_42 (dk_at dksX4_counted_1 4 rfl rfl)
theorem dX4_counted_28 : decode cX4_counted 28 = .ok (.getfield 48, 3) := dk_180 0 48 (dk_at dksX4_counted_1 5 rfl rfl)
theorem dX4_counted_31 : decode cX4_counted 31 = .ok (.getfield 124, 3) := dk_180 0 124 (dk_at dksX4_counted_1 8 rfl rfl)
theorem dX4_counted_34 : decode cX4_counted 34 = .ok (.iload 5, 2) := dk_21 5 (dk_at dksX4_counted_1 11 rfl rfl)
theorem dX4_counted_36 : decode cX4_counted 36 = .ok (.iaload, 1) := dk_46 (dk_at dksX4_counted_1 13 rfl rfl)
theorem dX4_counted_37 : decode cX4_counted 37 = .ok (.dup2, 1) := dk_92 (dk_at dksX4_counted_1 14 rfl rfl)
theorem dX4_counted_38 : decode cX4_counted 38 = .ok (.iaload, 1) := dk_46 (dk_at dksX4_counted_1 15 rfl rfl)
theorem dX4_counted_39 : decode cX4_counted 39 = .ok (.iconst 1, 1) := dk_4 (dk_at dksX4_counted_1 16 rfl rfl)
theorem dX4_counted_40 : decode cX4_counted 40 = .ok (.iadd, 1) := dk_96 (dk_at dksX4_counted_1 17 rfl rfl)
theorem dX4_counted_41 : decode cX4_counted 41 = .ok (.iastore, 1) := dk_79 (dk_at dksX4_counted_1 18 rfl rfl)
theorem dX4_counted_42 : decode cX4_counted 42 = .ok (.aload_n 3, 1) := dk_45 (dk_at dksX4_counted_1 19 rfl rfl)
theorem dX4_counted_43 : decode cX4_counted 43 = .ok (.aload_n 0, 1) := dk_42 (dk_at dksX4_counted_1 20 rfl rfl)
theorem dX4_counted_44 : decode cX4_counted 44 = .ok (.getfield 55, 3) := dk_180 0 55 (dk_at dksX4_counted_1 21 rfl rfl)
theorem dX4_counted_47 : decode cX4_counted 47 = .ok (.iload 5, 2) := dk_21 5 (dk_at dksX4_counted_2 0 rfl rfl)
theorem dX4_counted_49 : decode cX4_counted 49 = .ok (.iaload, 1) := dk_46 (dk_at dksX4_counted_2 2 rfl rfl)
theorem dX4_counted_50 : decode cX4_counted 50 = .ok (.dup2, 1) := dk_92 (dk_at dksX4_counted_2 3 rfl rfl)
theorem dX4_counted_51 : decode cX4_counted 51 = .ok (.iaload, 1) := dk_46 (dk_at dksX4_counted_2 4 rfl rfl)
theorem dX4_counted_52 : decode cX4_counted 52 = .ok (.iconst 1, 1) := dk_4 (dk_at dksX4_counted_2 5 rfl rfl)
theorem dX4_counted_53 : decode cX4_counted 53 = .ok (.iadd, 1) := dk_96 (dk_at dksX4_counted_2 6 rfl rfl)
theorem dX4_counted_54 : decode cX4_counted 54 = .ok (.iastore, 1) := dk_79 (dk_at dksX4_counted_2 7 rfl rfl)
theorem dX4_counted_55 : decode cX4_counted 55 = .ok (.iload 4, 2) := dk_21 4 (dk_at dksX4_counted_2 8 rfl rfl)
theorem dX4_counted_57 : decode cX4_counted 57 = .ok (.aload_n 0, 1) := dk_42 (dk_at dksX4_counted_2 10 rfl rfl)
theorem dX4_counted_58 : decode cX4_counted 58 = .ok (.getfield 48, 3) := dk_180 0 48 (dk_at dksX4_counted_2 11 rfl rfl)
theorem dX4_counted_61 : decode cX4_counted 61 = .ok (.getfield 98, 3) := dk_180 0 98 (dk_at dksX4_counted_2 14 rfl rfl)
theorem dX4_counted_64 : decode cX4_counted 64 = .ok (.iload 5, 2) := dk_21 5 (dk_at dksX4_counted_2 17 rfl rfl)
theorem dX4_counted_66 : decode cX4_counted 66 = .ok (.iaload, 1) := dk_46 (dk_at dksX4_counted_2 19 rfl rfl)
theorem dX4_counted_67 : decode cX4_counted 67 = .ok (.iadd, 1) := dk_96 (dk_at dksX4_counted_2 20 rfl rfl)
theorem dX4_counted_68 : decode cX4_counted 68 = .ok (.istore 4, 2) := dk_54 4 (dk_at dksX4_counted_2 21 rfl rfl)
theorem dX4_counted_70 : decode cX4_counted 70 = .ok (.iinc 5 1, 3) := dk_132 5 1 (dk_at dksX4_counted_3 0 rfl rfl)
theorem dX4_counted_73 : decode cX4_counted 73 = .ok (.goto (-59), 3) := dk_167 255 197 (dk_at dksX4_counted_3 3 rfl rfl)
theorem dX4_counted_76 : decode cX4_counted 76 = .ok (.bipush 12, 2) := dk_16 12 (dk_at dksX4_counted_3 6 rfl rfl)
theorem dX4_counted_78 : decode cX4_counted 78 = .ok (.newarray .int, 2) := dk_188_10 (dk_at dksX4_counted_3 8 rfl rfl)
theorem dX4_counted_80 : decode cX4_counted 80 = .ok (.dup, 1) := dk_89 (dk_at dksX4_counted_3 10 rfl rfl)
theorem dX4_counted_81 : decode cX4_counted 81 = .ok (.iconst 0, 1) := dk_3 (dk_at dksX4_counted_3 11 rfl rfl)
theorem dX4_counted_82 : decode cX4_counted 82 = .ok (.aload_n 0, 1) := dk_42 (dk_at dksX4_counted_3 12 rfl rfl)
theorem dX4_counted_83 : decode cX4_counted 83 = .ok (.getfield 48, 3) := dk_180 0 48 (dk_at dksX4_counted_3 13 rfl rfl)
theorem dX4_counted_86 : decode cX4_counted 86 = .ok (.getfield 88, 3) := dk_180 0 88 (dk_at dksX4_counted_3 16 rfl rfl)
theorem dX4_counted_89 : decode cX4_counted 89 = .ok (.iastore, 1) := dk_79 (dk_at dksX4_counted_3 19 rfl rfl)
theorem dX4_counted_90 : decode cX4_counted 90 = .ok (.dup, 1) := dk_89 (dk_at dksX4_counted_3 20 rfl rfl)
theorem dX4_counted_91 : decode cX4_counted 91 = .ok (.iconst 1, 1) := dk_4 (dk_at dksX4_counted_3 21 rfl rfl)
theorem dX4_counted_92 : decode cX4_counted 92 = .ok (.aload_n 0, 1) := dk_42 (dk_at dksX4_counted_3 22 rfl rfl)
theorem dX4_counted_93 : decode cX4_counted 93 = .ok (.getfield 48, 3) := dk_180 0 48 (dk_at dksX4_counted_4 0 rfl rfl)
theorem dX4_counted_96 : decode cX4_counted 96 = .ok (.getfield 95, 3) := dk_180 0 95 (dk_at dksX4_counted_4 3 rfl rfl)
theorem dX4_counted_99 : decode cX4_counted 99 = .ok (.iastore, 1) := dk_79 (dk_at dksX4_counted_4 6 rfl rfl)
theorem dX4_counted_100 : decode cX4_counted 100 = .ok (.dup, 1) := dk_89 (dk_at dksX4_counted_4 7 rfl rfl)
theorem dX4_counted_101 : decode cX4_counted 101 = .ok (.iconst 2, 1) := dk_5 (dk_at dksX4_counted_4 8 rfl rfl)
theorem dX4_counted_102 : decode cX4_counted 102 = .ok (.aload_n 2, 1) := dk_44 (dk_at dksX4_counted_4 9 rfl rfl)
theorem dX4_counted_103 : decode cX4_counted 103 = .ok (.iconst 0, 1) := dk_3 (dk_at dksX4_counted_4 10 rfl rfl)
theorem dX4_counted_104 : decode cX4_counted 104 = .ok (.iaload, 1) := dk_46 (dk_at dksX4_counted_4 11 rfl rfl)
theorem dX4_counted_105 : decode cX4_counted 105 = .ok (.iastore, 1) := dk_79 (dk_at dksX4_counted_4 12 rfl rfl)
theorem dX4_counted_106 : decode cX4_counted 106 = .ok (.dup, 1) := dk_89 (dk_at dksX4_counted_4 13 rfl rfl)
theorem dX4_counted_107 : decode cX4_counted 107 = .ok (.iconst 3, 1) := dk_6 (dk_at dksX4_counted_4 14 rfl rfl)
theorem dX4_counted_108 : decode cX4_counted 108 = .ok (.aload_n 2, 1) := dk_44 (dk_at dksX4_counted_4 15 rfl rfl)
theorem dX4_counted_109 : decode cX4_counted 109 = .ok (.iconst 1, 1) := dk_4 (dk_at dksX4_counted_4 16 rfl rfl)
theorem dX4_counted_110 : decode cX4_counted 110 = .ok (.iaload, 1) := dk_46 (dk_at dksX4_counted_4 17 rfl rfl)
theorem dX4_counted_111 : decode cX4_counted 111 = .ok (.iastore, 1) := dk_79 (dk_at dksX4_counted_4 18 rfl rfl)
theorem dX4_counted_112 : decode cX4_counted 112 = .ok (.dup, 1) := dk_89 (dk_at dksX4_counted_4 19 rfl rfl)
theorem dX4_counted_113 : decode cX4_counted 113 = .ok (.iconst 4, 1) := dk_7 (dk_at dksX4_counted_4 20 rfl rfl)
theorem dX4_counted_114 : decode cX4_counted 114 = .ok (.aload_n 2, 1) := dk_44 (dk_at dksX4_counted_4 21 rfl rfl)
theorem dX4_counted_115 : decode cX4_counted 115 = .ok (.iconst 2, 1) := dk_5 (dk_at dksX4_counted_4 22 rfl rfl)
theorem dX4_counted_116 : decode cX4_counted 116 = .ok (.iaload, 1) := dk_46 (dk_at dksX4_counted_4 23 rfl rfl)
theorem dX4_counted_117 : decode cX4_counted 117 = .ok (.iastore, 1) := dk_79 (dk_at dksX4_counted_5 0 rfl rfl)
theorem dX4_counted_118 : decode cX4_counted 118 = .ok (.dup, 1) := dk_89 (dk_at dksX4_counted_5 1 rfl rfl)
theorem dX4_counted_119 : decode cX4_counted 119 = .ok (.iconst 5, 1) := dk_8 (dk_at dksX4_counted_5 2 rfl rfl)
theorem dX4_counted_120 : decode cX4_counted 120 = .ok (.aload_n 3, 1) := dk_45 (dk_at dksX4_counted_5 3 rfl rfl)
theorem dX4_counted_121 : decode cX4_counted 121 = .ok (.iconst 1, 1) := dk_4 (dk_at dksX4_counted_5 4 rfl rfl)
theorem dX4_counted_122 : decode cX4_counted 122 = .ok (.iaload, 1) := dk_46 (dk_at dksX4_counted_5 5 rfl rfl)
theorem dX4_counted_123 : decode cX4_counted 123 = .ok (.iastore, 1) := dk_79 (dk_at dksX4_counted_5 6 rfl rfl)
theorem dX4_counted_124 : decode cX4_counted 124 = .ok (.dup, 1) := dk_89 (dk_at dksX4_counted_5 7 rfl rfl)
theorem dX4_counted_125 : decode cX4_counted 125 = .ok (.bipush 6, 2) := dk_16 6 (dk_at dksX4_counted_5 8 rfl rfl)
theorem dX4_counted_127 : decode cX4_counted 127 = .ok (.aload_n 3, 1) := dk_45 (dk_at dksX4_counted_5 10 rfl rfl)
theorem dX4_counted_128 : decode cX4_counted 128 = .ok (.iconst 2, 1) := dk_5 (dk_at dksX4_counted_5 11 rfl rfl)
theorem dX4_counted_129 : decode cX4_counted 129 = .ok (.iaload, 1) := dk_46 (dk_at dksX4_counted_5 12 rfl rfl)
theorem dX4_counted_130 : decode cX4_counted 130 = .ok (.iastore, 1) := dk_79 (dk_at dksX4_counted_5 13 rfl rfl)
theorem dX4_counted_131 : decode cX4_counted 131 = .ok (.dup, 1) := dk_89 (dk_at dksX4_counted_5 14 rfl rfl)
theorem dX4_counted_132 : decode cX4_counted 132 = .ok (.bipush 7, 2) := dk_16 7 (dk_at dksX4_counted_5 15 rfl rfl)
theorem dX4_counted_134 : decode cX4_counted 134 = .ok (.aload_n 3, 1) := dk_45 (dk_at dksX4_counted_5 17 rfl rfl)
theorem dX4_counted_135 : decode cX4_counted 135 = .ok (.iconst 0, 1) := dk_3 (dk_at dksX4_counted_5 18 rfl rfl)
theorem dX4_counted_136 : decode cX4_counted 136 = .ok (.iaload, 1) := dk_46 (dk_at dksX4_counted_5 19 rfl rfl)
theorem dX4_counted_137 : decode cX4_counted 137 = .ok (.iastore, 1) := dk_79 (dk_at dksX4_counted_5 20 rfl rfl)
theorem dX4_counted_138 : decode cX4_counted 138 = .ok (.dup, 1) := dk_89 (dk_at dksX4_counted_5 21 rfl rfl)
theorem dX4_counted_139 : decode cX4_counted 139 = .ok (.bipush 8, 2) := dk_16 8 (dk_at dksX4_counted_5 22 rfl rfl)
theorem dX4_counted_141 : decode cX4_counted 141 = .ok (.iload 4, 2) := dk_21 4 (dk_at dksX4_counted_6 0 rfl rfl)
theorem dX4_counted_143 : decode cX4_counted 143 = .ok (.iastore, 1) := dk_79 (dk_at dksX4_counted_6 2 rfl rfl)
theorem dX4_counted_144 : decode cX4_counted 144 = .ok (.dup, 1) := dk_89 (dk_at dksX4_counted_6 3 rfl rfl)
theorem dX4_counted_145 : decode cX4_counted 145 = .ok (.bipush 9, 2) := dk_16 9 (dk_at dksX4_counted_6 4 rfl rfl)
theorem dX4_counted_147 : decode cX4_counted 147 = .ok (.aload_n 0, 1) := dk_42 (dk_at dksX4_counted_6 6 rfl rfl)
theorem dX4_counted_148 : decode cX4_counted 148 = .ok (.getfield 328, 3) := dk_180 1 72 (dk_at dksX4_counted_6 7 rfl rfl)
theorem dX4_counted_151 : decode cX4_counted 151 = .ok (.iastore, 1) := dk_79 (dk_at dksX4_counted_6 10 rfl rfl)
theorem dX4_counted_152 : decode cX4_counted 152 = .ok (.dup, 1) := dk_89 (dk_at dksX4_counted_6 11 rfl rfl)
theorem dX4_counted_153 : decode cX4_counted 153 = .ok (.bipush 10, 2) := dk_16 10 (dk_at dksX4_counted_6 12 rfl rfl)
theorem dX4_counted_155 : decode cX4_counted 155 = .ok (.aload_n 0, 1) := dk_42 (dk_at dksX4_counted_6 14 rfl rfl)
theorem dX4_counted_156 : decode cX4_counted 156 = .ok (.getfield 145, 3) := dk_180 0 145 (dk_at dksX4_counted_6 15 rfl rfl)
theorem dX4_counted_159 : decode cX4_counted 159 = .ok (.iastore, 1) := dk_79 (dk_at dksX4_counted_6 18 rfl rfl)
theorem dX4_counted_160 : decode cX4_counted 160 = .ok (.dup, 1) := dk_89 (dk_at dksX4_counted_6 19 rfl rfl)
theorem dX4_counted_161 : decode cX4_counted 161 = .ok (.bipush 11, 2) := dk_16 11 (dk_at dksX4_counted_6 20 rfl rfl)
theorem dX4_counted_163 : decode cX4_counted 163 = .ok (.aload_n 0, 1) := dk_42 (dk_at dksX4_counted_6 22 rfl rfl)
theorem dX4_counted_164 : decode cX4_counted 164 = .ok (.getfield 331, 3) := dk_180 1 75 (dk_at dksX4_counted_7 0 rfl rfl)
theorem dX4_counted_167 : decode cX4_counted 167 = .ok (.iastore, 1) := dk_79 (dk_at dksX4_counted_7 3 rfl rfl)
theorem dX4_counted_168 : decode cX4_counted 168 = .ok (.astore 5, 2) := dk_58 5 (dk_at dksX4_counted_7 4 rfl rfl)
theorem dX4_counted_170 : decode cX4_counted 170 = .ok (.aload 5, 2) := dk_25 5 (dk_at dksX4_counted_7 6 rfl rfl)
theorem dX4_counted_172 : decode cX4_counted 172 = .ok (.iload_n 1, 1) := dk_27 (dk_at dksX4_counted_7 8 rfl rfl)
theorem dX4_counted_173 : decode cX4_counted 173 = .ok (.iaload, 1) := dk_46 (dk_at dksX4_counted_7 9 rfl rfl)
theorem dX4_counted_174 : decode cX4_counted 174 = .ok (.ireturn, 1) := dk_172 (dk_at dksX4_counted_7 10 rfl rfl)
theorem zf_17_3_allModel_State : zz_fok [17] 3 "DebateHallModel$State" "items" "I" := zz_fok1 (zR_17, zT_17, 12) rfl (by decide) rfl rfl (Or.inl rfl)
theorem q2394 : (Jvm.Cond.fieldLinkNest "DebateHallModel" (95 : Nat) "DebateHallModel$State" "items" "I" "DebateHallModel") ∈ lw_tbl := lw_at lw_m10 154 rfl
theorem zf_17_0_allModel_State : zz_fok [17] 0 "DebateHallModel$State" "speakers" "I" := zz_fok1 (zR_17, zT_17, 12) rfl (by decide) rfl rfl (Or.inl rfl)
theorem q2388 : (Jvm.Cond.fieldLinkNest "DebateHallModel" (88 : Nat) "DebateHallModel$State" "speakers" "I" "DebateHallModel") ∈ lw_tbl := lw_at lw_m10 148 rfl
theorem zf_16_15_ebateHallModel : zz_fok [16] 15 "DebateHallModel" "rounds" "I" := zz_fok1 (zR_16, zT_16, 24) rfl (by decide) rfl rfl (Or.inl rfl)
theorem q2451 : (Jvm.Cond.fieldLink "DebateHallModel" (328 : Nat) "DebateHallModel" "rounds" "I") ∈ lw_all := lw_g (lw_at lw_m10 211 rfl) rfl
theorem zf_16_2_ebateHallModel : zz_fok [16] 2 "DebateHallModel" "taped" "I" := zz_fok1 (zR_16, zT_16, 24) rfl (by decide) rfl rfl (Or.inl rfl)
theorem q2438 : (Jvm.Cond.fieldLink "DebateHallModel" (145 : Nat) "DebateHallModel" "taped" "I") ∈ lw_all := lw_g (lw_at lw_m10 198 rfl) rfl
theorem zf_16_4_ebateHallModel : zz_fok [16] 4 "DebateHallModel" "written" "I" := zz_fok1 (zR_16, zT_16, 24) rfl (by decide) rfl rfl (Or.inl rfl)
theorem q2440 : (Jvm.Cond.fieldLink "DebateHallModel" (331 : Nat) "DebateHallModel" "written" "I") ∈ lw_all := lw_g (lw_at lw_m10 200 rfl) rfl
theorem q2398 : (Jvm.Cond.fieldLinkNest "DebateHallModel" (124 : Nat) "DebateHallModel$State" "kind" "[I" "DebateHallModel") ∈ lw_tbl := lw_at lw_m10 158 rfl
theorem q2408 : (Jvm.Cond.fieldLinkNest "DebateHallModel" (98 : Nat) "DebateHallModel$State" "conceded" "[I" "DebateHallModel") ∈ lw_tbl := lw_at lw_m10 168 rfl
def wp_X4_counted_L14 (Z : zzG) (K : Option Value → zzM → Prop) : Nat → Option Nat → Int32 → Option Nat → Option Nat → Int32 → Int32 → zzM → Nat → Nat → Prop
  | 0, _, _, _, _, _, _, _, _, _ => False
  | n + 1, v0, v1, v2, v3, v4, v5, M, bc, bs => zgA Z M v0 [16] 11 fun x9 => zgI Z M x9 [17] 3 fun x10 => if x10 ≤ v5 then (znar Z M bc bs 100 (12 : Int32) (.int 0) fun q11 M12 bc13 bs14 => zgA Z M12 v0 [16] 11 fun x15 => zgI Z M12 x15 [17] 0 fun x16 => zast Z M12 (some q11) [100] (0 : Int32) (.int x16) fun M17 => zgA Z M17 v0 [16] 11 fun x18 => zgI Z M17 x18 [17] 3 fun x19 => zast Z M17 (some q11) [100] (1 : Int32) (.int x19) fun M20 => zaI Z M20 v2 [100] (0 : Int32) fun x21 => zast Z M20 (some q11) [100] (2 : Int32) (.int x21) fun M22 => zaI Z M22 v2 [100] (1 : Int32) fun x23 => zast Z M22 (some q11) [100] (3 : Int32) (.int x23) fun M24 => zaI Z M24 v2 [100] (2 : Int32) fun x25 => zast Z M24 (some q11) [100] (4 : Int32) (.int x25) fun M26 => zaI Z M26 v3 [100] (1 : Int32) fun x27 => zast Z M26 (some q11) [100] (5 : Int32) (.int x27) fun M28 => zaI Z M28 v3 [100] (2 : Int32) fun x29 => zast Z M28 (some q11) [100] (6 : Int32) (.int x29) fun M30 => zaI Z M30 v3 [100] (0 : Int32) fun x31 => zast Z M30 (some q11) [100] (7 : Int32) (.int x31) fun M32 => zast Z M32 (some q11) [100] (8 : Int32) (.int v4) fun M33 => zgI Z M33 v0 [16] 15 fun x34 => zast Z M33 (some q11) [100] (9 : Int32) (.int x34) fun M35 => zgI Z M35 v0 [16] 2 fun x36 => zast Z M35 (some q11) [100] (10 : Int32) (.int x36) fun M37 => zgI Z M37 v0 [16] 4 fun x38 => zast Z M37 (some q11) [100] (11 : Int32) (.int x38) fun M39 => zaI Z M39 (some q11) [100] v1 fun x40 => K (some (.int x40)) M39) else (zgA Z M v0 [16] 11 fun x41 => zgA Z M x41 [17] 5 fun x42 => zaI Z M x42 [100] v5 fun x43 => zaI Z M v2 [100] x43 fun x44 => zast Z M v2 [100] x43 (.int (x44 + (1 : Int32))) fun M45 => zgA Z M45 v0 [16] 13 fun x46 => zaI Z M45 x46 [100] v5 fun x47 => zaI Z M45 v3 [100] x47 fun x48 => zast Z M45 v3 [100] x47 (.int (x48 + (1 : Int32))) fun M49 => zgA Z M49 v0 [16] 11 fun x50 => zgA Z M49 x50 [17] 10 fun x51 => zaI Z M49 x51 [100] v5 fun x52 => wp_X4_counted_L14 Z K n v0 v1 v2 v3 (v4 + x52) (v5 + 1) M49 bc bs)
def wp_X4_counted (Z : zzG) (this : Option Nat) (p0 : Int32) (M : zzM) (bc bs : Nat) (K : Option Value → zzM → Prop) : Prop := znar Z M bc bs 100 (3 : Int32) (.int 0) fun q1 M2 bc3 bs4 => znar Z M2 bc3 bs4 100 (3 : Int32) (.int 0) fun q5 M6 bc7 bs8 => ∃ n14 : Nat, wp_X4_counted_L14 Z K n14 this p0 (some q1) (some q5) (0 : Int32) (0 : Int32) M6 bc7 bs8
theorem ok_X4_counted_L14 {G : zzX} (C : zz_C G cX4_counted "DebateHallModel" 6) {K : Option Value → zzM → Prop} (E : zz_E G (some .int) K (fun _ _ _ => False)) (hH : zz_H G []) (hR : zz_Rm G 1) : ∀ (n : Nat) (v0 : Option Nat) (v1 : Int32) (v2 : Option Nat) (v3 : Option Nat) (v4 : Int32) (v5 : Int32) (M : zzM) (bc bs : Nat), wp_X4_counted_L14 (zz_Zof G) K n v0 v1 v2 v3 v4 v5 M bc bs → zz_T G 6 M bc bs 14 [(0, va_rf v0), (1, .int v1), (2, va_rf v2), (3, va_rf v3), (4, .int v4), (5, .int v5)] [] := by
  intro n
  induction n with
  | zero =>
    intro v0 v1 v2 v3 v4 v5 M bc bs hw
    exact False.elim hw
  | succ n ih =>
    intro v0 v1 v2 v3 v4 v5 M bc bs hw
    refine zz_iload C dX4_counted_14 5 rfl ?_
    refine zz_aload_n C dX4_counted_16 rfl 0 rfl ?_
    refine zz_getA C dX4_counted_17 (Or.inl q2447) zf_16_11_ebateHallModel hw (fun x9 hw => ?_)
    refine zz_getI C dX4_counted_20 (Or.inr ⟨_, q2394⟩) zf_17_3_allModel_State hw (fun x10 hw => ?_)
    refine zz_icmp_ge (tgt := 76) C dX4_counted_23 (by decide) hw (fun hw => ?_) (fun hw => ?_)
    · refine zz_bipush (v := (12 : Int32)) C dX4_counted_76 (by decide) ?_
      refine zz_newar (t := 100) (ty := .int) C dX4_counted_78 rfl rfl (by decide) (fun _ _ h9 => h9) rfl q270 hw (fun q11 M12 bc13 bs14 hw => ?_)
      refine zz_dup C dX4_counted_80 (zz_cat _) ?_
      refine zz_iconst (v := (0 : Int32)) C dX4_counted_81 (by decide) ?_
      refine zz_aload_n C dX4_counted_82 rfl 0 rfl ?_
      refine zz_getA C dX4_counted_83 (Or.inl q2447) zf_16_11_ebateHallModel hw (fun x15 hw => ?_)
      refine zz_getI C dX4_counted_86 (Or.inr ⟨_, q2388⟩) zf_17_0_allModel_State hw (fun x16 hw => ?_)
      refine zz_iast C dX4_counted_89 hw (fun M17 hw => ?_)
      refine zz_dup C dX4_counted_90 (zz_cat _) ?_
      refine zz_iconst (v := (1 : Int32)) C dX4_counted_91 (by decide) ?_
      refine zz_aload_n C dX4_counted_92 rfl 0 rfl ?_
      refine zz_getA C dX4_counted_93 (Or.inl q2447) zf_16_11_ebateHallModel hw (fun x18 hw => ?_)
      refine zz_getI C dX4_counted_96 (Or.inr ⟨_, q2394⟩) zf_17_3_allModel_State hw (fun x19 hw => ?_)
      refine zz_iast C dX4_counted_99 hw (fun M20 hw => ?_)
      refine zz_dup C dX4_counted_100 (zz_cat _) ?_
      refine zz_iconst (v := (2 : Int32)) C dX4_counted_101 (by decide) ?_
      refine zz_aload_n C dX4_counted_102 rfl 2 rfl ?_
      refine zz_iconst (v := (0 : Int32)) C dX4_counted_103 (by decide) ?_
      refine zz_iald C dX4_counted_104 hw (fun x21 hw => ?_)
      refine zz_iast C dX4_counted_105 hw (fun M22 hw => ?_)
      refine zz_dup C dX4_counted_106 (zz_cat _) ?_
      refine zz_iconst (v := (3 : Int32)) C dX4_counted_107 (by decide) ?_
      refine zz_aload_n C dX4_counted_108 rfl 2 rfl ?_
      refine zz_iconst (v := (1 : Int32)) C dX4_counted_109 (by decide) ?_
      refine zz_iald C dX4_counted_110 hw (fun x23 hw => ?_)
      refine zz_iast C dX4_counted_111 hw (fun M24 hw => ?_)
      refine zz_dup C dX4_counted_112 (zz_cat _) ?_
      refine zz_iconst (v := (4 : Int32)) C dX4_counted_113 (by decide) ?_
      refine zz_aload_n C dX4_counted_114 rfl 2 rfl ?_
      refine zz_iconst (v := (2 : Int32)) C dX4_counted_115 (by decide) ?_
      refine zz_iald C dX4_counted_116 hw (fun x25 hw => ?_)
      refine zz_iast C dX4_counted_117 hw (fun M26 hw => ?_)
      refine zz_dup C dX4_counted_118 (zz_cat _) ?_
      refine zz_iconst (v := (5 : Int32)) C dX4_counted_119 (by decide) ?_
      refine zz_aload_n C dX4_counted_120 rfl 3 rfl ?_
      refine zz_iconst (v := (1 : Int32)) C dX4_counted_121 (by decide) ?_
      refine zz_iald C dX4_counted_122 hw (fun x27 hw => ?_)
      refine zz_iast C dX4_counted_123 hw (fun M28 hw => ?_)
      refine zz_dup C dX4_counted_124 (zz_cat _) ?_
      refine zz_bipush (v := (6 : Int32)) C dX4_counted_125 (by decide) ?_
      refine zz_aload_n C dX4_counted_127 rfl 3 rfl ?_
      refine zz_iconst (v := (2 : Int32)) C dX4_counted_128 (by decide) ?_
      refine zz_iald C dX4_counted_129 hw (fun x29 hw => ?_)
      refine zz_iast C dX4_counted_130 hw (fun M30 hw => ?_)
      refine zz_dup C dX4_counted_131 (zz_cat _) ?_
      refine zz_bipush (v := (7 : Int32)) C dX4_counted_132 (by decide) ?_
      refine zz_aload_n C dX4_counted_134 rfl 3 rfl ?_
      refine zz_iconst (v := (0 : Int32)) C dX4_counted_135 (by decide) ?_
      refine zz_iald C dX4_counted_136 hw (fun x31 hw => ?_)
      refine zz_iast C dX4_counted_137 hw (fun M32 hw => ?_)
      refine zz_dup C dX4_counted_138 (zz_cat _) ?_
      refine zz_bipush (v := (8 : Int32)) C dX4_counted_139 (by decide) ?_
      refine zz_iload C dX4_counted_141 4 rfl ?_
      refine zz_iast C dX4_counted_143 hw (fun M33 hw => ?_)
      refine zz_dup C dX4_counted_144 (zz_cat _) ?_
      refine zz_bipush (v := (9 : Int32)) C dX4_counted_145 (by decide) ?_
      refine zz_aload_n C dX4_counted_147 rfl 0 rfl ?_
      refine zz_getI C dX4_counted_148 (Or.inl q2451) zf_16_15_ebateHallModel hw (fun x34 hw => ?_)
      refine zz_iast C dX4_counted_151 hw (fun M35 hw => ?_)
      refine zz_dup C dX4_counted_152 (zz_cat _) ?_
      refine zz_bipush (v := (10 : Int32)) C dX4_counted_153 (by decide) ?_
      refine zz_aload_n C dX4_counted_155 rfl 0 rfl ?_
      refine zz_getI C dX4_counted_156 (Or.inl q2438) zf_16_2_ebateHallModel hw (fun x36 hw => ?_)
      refine zz_iast C dX4_counted_159 hw (fun M37 hw => ?_)
      refine zz_dup C dX4_counted_160 (zz_cat _) ?_
      refine zz_bipush (v := (11 : Int32)) C dX4_counted_161 (by decide) ?_
      refine zz_aload_n C dX4_counted_163 rfl 0 rfl ?_
      refine zz_getI C dX4_counted_164 (Or.inl q2440) zf_16_4_ebateHallModel hw (fun x38 hw => ?_)
      refine zz_iast C dX4_counted_167 hw (fun M39 hw => ?_)
      refine zz_astore (lv' := [(5, va_rf (some q11)), (0, va_rf v0), (1, .int v1), (2, va_rf v2), (3, va_rf v3), (4, .int v4)]) C dX4_counted_168 (by decide) rfl ?_
      refine zz_aload C dX4_counted_170 0 rfl ?_
      refine zz_iload_n C dX4_counted_172 rfl 2 rfl ?_
      refine zz_iald C dX4_counted_173 hw (fun x40 hw => ?_)
      exact zz_iret C E dX4_counted_174 hw
    · refine zz_aload_n C dX4_counted_26 rfl 2 rfl ?_
      refine zz_aload_n C dX4_counted_27 rfl 0 rfl ?_
      refine zz_getA C dX4_counted_28 (Or.inl q2447) zf_16_11_ebateHallModel hw (fun x41 hw => ?_)
      refine zz_getA C dX4_counted_31 (Or.inr ⟨_, q2398⟩) zf_17_5_allModel_State hw (fun x42 hw => ?_)
      refine zz_iload C dX4_counted_34 5 rfl ?_
      refine zz_iald C dX4_counted_36 hw (fun x43 hw => ?_)
      refine zz_dup2 C dX4_counted_37 rfl (zz_cat _) ?_
      refine zz_iald C dX4_counted_38 hw (fun x44 hw => ?_)
      refine zz_iconst (v := (1 : Int32)) C dX4_counted_39 (by decide) ?_
      refine zz_iadd C dX4_counted_40 ?_
      refine zz_iast C dX4_counted_41 hw (fun M45 hw => ?_)
      refine zz_aload_n C dX4_counted_42 rfl 3 rfl ?_
      refine zz_aload_n C dX4_counted_43 rfl 0 rfl ?_
      refine zz_getA C dX4_counted_44 (Or.inl q2449) zf_16_13_ebateHallModel hw (fun x46 hw => ?_)
      refine zz_iload C dX4_counted_47 5 rfl ?_
      refine zz_iald C dX4_counted_49 hw (fun x47 hw => ?_)
      refine zz_dup2 C dX4_counted_50 rfl (zz_cat _) ?_
      refine zz_iald C dX4_counted_51 hw (fun x48 hw => ?_)
      refine zz_iconst (v := (1 : Int32)) C dX4_counted_52 (by decide) ?_
      refine zz_iadd C dX4_counted_53 ?_
      refine zz_iast C dX4_counted_54 hw (fun M49 hw => ?_)
      refine zz_iload C dX4_counted_55 4 rfl ?_
      refine zz_aload_n C dX4_counted_57 rfl 0 rfl ?_
      refine zz_getA C dX4_counted_58 (Or.inl q2447) zf_16_11_ebateHallModel hw (fun x50 hw => ?_)
      refine zz_getA C dX4_counted_61 (Or.inr ⟨_, q2408⟩) zf_17_10_allModel_State hw (fun x51 hw => ?_)
      refine zz_iload C dX4_counted_64 5 rfl ?_
      refine zz_iald C dX4_counted_66 hw (fun x52 hw => ?_)
      refine zz_iadd C dX4_counted_67 ?_
      refine zz_istore (lv' := [(4, .int (v4 + x52)), (0, va_rf v0), (1, .int v1), (2, va_rf v2), (3, va_rf v3), (5, .int v5)]) C dX4_counted_68 (by decide) (by simp [zz_cat, zz_catI, zz_catJ, zz_catD]) ?_
      refine zz_iinc (lv' := [(5, .int (v5 + 1)), (4, .int (v4 + x52)), (0, va_rf v0), (1, .int v1), (2, va_rf v2), (3, va_rf v3)]) C dX4_counted_70 5 rfl (by rfl) (by decide) rfl ?_
      refine zz_goto (tgt := 14) C dX4_counted_73 (by decide) ?_
      refine zz_subP [2, 3, 4, 5, 1, 0] rfl ?_
      exact ih _ _ _ _ _ _ _ _ _ hw
theorem ok_X4_counted {Z : zzG} {l : Launch} (hl : l.stackTraces = false) {this : Option Nat} {p0 : Int32} {M : zzM} {mc ms : Nat} {K : Option Value → zzM → Prop} (hw : wp_X4_counted Z this p0 M mc ms K) : zz_Met Z l yX4_counted (zz_ws yX4_counted cX4_counted 6 (some .int) none) 1 [va_rf this, .int p0] M mc ms K (fun _ _ _ => False) := by
  refine zz_ofW hl (plainFor_of_name (by decide)) (by simp only [zz_sl0, zz_slI, zz_slJ, zz_slA] <;> decide) (fun G hZ hll C E hH hR hin => ?_)
  subst hZ
  subst hll
  rw [show lv_args 0 [va_rf this, .int p0] = [(0, va_rf this), (1, .int p0)] by simp only [zz_la0, zz_laI, zz_laJ, zz_laA]]
  unfold wp_X4_counted at hw
  refine zz_iconst (v := (3 : Int32)) C dX4_counted_0 (by decide) ?_
  refine zz_newar (t := 100) (ty := .int) C dX4_counted_1 rfl rfl (by decide) (fun _ _ h9 => h9) rfl q270 hw (fun q1 M2 bc3 bs4 hw => ?_)
  refine zz_astore_n (i := 2) (lv' := [(2, va_rf (some q1)), (0, va_rf this), (1, .int p0)]) C dX4_counted_3 rfl (by decide) rfl ?_
  refine zz_iconst (v := (3 : Int32)) C dX4_counted_4 (by decide) ?_
  refine zz_newar (t := 100) (ty := .int) C dX4_counted_5 rfl rfl (by decide) (fun _ _ h9 => h9) rfl q270 hw (fun q5 M6 bc7 bs8 hw => ?_)
  refine zz_astore_n (i := 3) (lv' := [(3, va_rf (some q5)), (2, va_rf (some q1)), (0, va_rf this), (1, .int p0)]) C dX4_counted_7 rfl (by decide) (by simp [zz_cat, zz_catI, zz_catJ, zz_catD]) ?_
  refine zz_iconst (v := (0 : Int32)) C dX4_counted_8 (by decide) ?_
  refine zz_istore (lv' := [(4, .int (0 : Int32)), (3, va_rf (some q5)), (2, va_rf (some q1)), (0, va_rf this), (1, .int p0)]) C dX4_counted_9 (by decide) (by simp [zz_cat, zz_catI, zz_catJ, zz_catD]) ?_
  refine zz_iconst (v := (0 : Int32)) C dX4_counted_11 (by decide) ?_
  refine zz_istore (lv' := [(5, .int (0 : Int32)), (4, .int (0 : Int32)), (3, va_rf (some q5)), (2, va_rf (some q1)), (0, va_rf this), (1, .int p0)]) C dX4_counted_12 (by decide) rfl ?_
  refine zz_subP [4, 5, 3, 2, 1, 0] rfl ?_
  obtain ⟨n14, hw⟩ := hw
  exact ok_X4_counted_L14 C E hH hR n14 _ _ _ _ _ _ _ _ _ hw
abbrev cX4_isConceded : ByteArray := prog_25_method_9_code
def yX4_isConceded : MethodName := ⟨"DebateHallModel", "isConceded", "(I)Z"⟩
def dkwX4_isConceded_1 : List UInt8 := [180, 0, 70, 160, 0, 7, 4, 167, 0, 4, 3, 172]
abbrev dktX4_isConceded_1 : List UInt8 := dkwX4_isConceded_1 ++ []
def dkwX4_isConceded_0 : List UInt8 := [42, 180, 0, 48, 180, 0, 98, 27, 46, 4, 159, 0, 19, 27, 42, 180, 0, 67, 159, 0, 11, 27, 42]
abbrev dktX4_isConceded_0 : List UInt8 := dkwX4_isConceded_0 ++ dktX4_isConceded_1
theorem dksX4_isConceded_0 : cX4_isConceded.data.toList.drop 0 = dktX4_isConceded_0 := by decide +kernel
theorem dksX4_isConceded_1 : cX4_isConceded.data.toList.drop 23 = dktX4_isConceded_1 := dk_seg dksX4_isConceded_0 23 rfl rfl
theorem dX4_isConceded_0 : decode cX4_isConceded 0 = .ok (.aload_n 0, 1) := dk_42 (dk_at dksX4_isConceded_0 0 rfl rfl)
theorem dX4_isConceded_1 : decode cX4_isConceded 1 = .ok (.getfield 48, 3) := dk_180 0 48 (dk_at dksX4_isConceded_0 1 rfl rfl)
theorem dX4_isConceded_4 : decode cX4_isConceded 4 = .ok (.getfield 98, 3) := dk_180 0 98 (dk_at dksX4_isConceded_0 4 rfl rfl)
theorem dX4_isConceded_7 : decode cX4_isConceded 7 = .ok (.iload_n 1, 1) := dk_27 (dk_at dksX4_isConceded_0 7 rfl rfl)
theorem dX4_isConceded_8 : decode cX4_isConceded 8 = .ok (.iaload, 1) := dk_46 (dk_at dksX4_isConceded_0 8 rfl rfl)
theorem dX4_isConceded_9 : decode cX4_isConceded 9 = .ok (.iconst 1, 1) := dk_4 (dk_at dksX4_isConceded_0 9 rfl rfl)
theorem dX4_isConceded_10 : decode cX4_isConceded 10 = .ok (.if_icmp .eq 19, 3) := dk_159 0 19 (dk_at dksX4_isConceded_0 10 rfl rfl)
theorem dX4_isConceded_13 : decode cX4_isConceded 13 = .ok (.iload_n 1, 1) := dk_27 (dk_at dksX4_isConceded_0 13 rfl rfl)
theorem dX4_isConceded_14 : decode cX4_isConceded 14 = .ok (.aload_n 0, 1) := dk_42 (dk_at dksX4_isConceded_0 14 rfl rfl)
theorem dX4_isConceded_15 : decode cX4_isConceded 15 = .ok (.getfield 67, 3) := dk_180 0 67 (dk_at dksX4_isConceded_0 15 rfl rfl)
theorem dX4_isConceded_18 : decode cX4_isConceded 18 = .ok (.if_icmp .eq 11, 3) := dk_159 0 11 (dk_at dksX4_isConceded_0 18 rfl rfl)
theorem dX4_isConceded_21 : decode cX4_isConceded 21 = .ok (.iload_n 1, 1) := dk_27 (dk_at dksX4_isConceded_0 21 rfl rfl)
theorem dX4_isConceded_22 : decode cX4_isConceded 22 = .ok (.aload_n 0, 1) := dk_42 (dk_at dksX4_isConceded_0 22 rfl rfl)
theorem dX4_isConceded_23 : decode cX4_isConceded 23 = .ok (.getfield 70, 3) := dk_180 0 70 (dk_at dksX4_isConceded_1 0 rfl rfl)
theorem dX4_isConceded_26 : decode cX4_isConceded 26 = .ok (.if_icmp .ne 7, 3) := dk_160 0 7 (dk_at dksX4_isConceded_1 3 rfl rfl)
theorem dX4_isConceded_29 : decode cX4_isConceded 29 = .ok (.iconst 1, 1) := dk_4 (dk_at dksX4_isConceded_1 6 rfl rfl)
theorem dX4_isConceded_30 : decode cX4_isConceded 30 = .ok (.goto 4, 3) := dk_167 0 4 (dk_at dksX4_isConceded_1 7 rfl rfl)
theorem dX4_isConceded_33 : decode cX4_isConceded 33 = .ok (.iconst 0, 1) := dk_3 (dk_at dksX4_isConceded_1 10 rfl rfl)
theorem dX4_isConceded_34 : decode cX4_isConceded 34 = .ok (.ireturn, 1) := dk_172 (dk_at dksX4_isConceded_1 11 rfl rfl)
def wp_X4_isConceded_B34 (Z : zzG) (K : Option Value → zzM → Prop) (s0 : Int32) (M : zzM) : Prop := narrow .boolean (.int s0) = .int s0 ∧ K (some (.int s0)) M
def wp_X4_isConceded_B29 (Z : zzG) (K : Option Value → zzM → Prop) (M : zzM) : Prop := wp_X4_isConceded_B34 Z K (1 : Int32) M
def wp_X4_isConceded (Z : zzG) (this : Option Nat) (p0 : Int32) (M : zzM) (K : Option Value → zzM → Prop) : Prop := zgA Z M this [16] 11 fun x1 => zgA Z M x1 [17] 10 fun x2 => zaI Z M x2 [100] p0 fun x3 => if x3 = (1 : Int32) then (wp_X4_isConceded_B29 Z K M) else (zgI Z M this [16] 18 fun x4 => if p0 = x4 then (wp_X4_isConceded_B29 Z K M) else (zgI Z M this [16] 19 fun x5 => if p0 = x5 then (wp_X4_isConceded_B29 Z K M) else (wp_X4_isConceded_B34 Z K (0 : Int32) M)))
theorem ok_X4_isConceded_B34 {G : zzX} (C : zz_C G cX4_isConceded "DebateHallModel" 2) {K : Option Value → zzM → Prop} (E : zz_E G (some .boolean) K (fun _ _ _ => False)) (hH : zz_H G []) (hR : zz_Rm G 1) {s0 : Int32} {M : zzM} {bc bs : Nat} (hw : wp_X4_isConceded_B34 (zz_Zof G) K s0 M) : zz_T G 2 M bc bs 34 [] [.int s0] := by
  unfold wp_X4_isConceded_B34 at hw
  exact zz_zret C E dX4_isConceded_34 hw
theorem ok_X4_isConceded_B29 {G : zzX} (C : zz_C G cX4_isConceded "DebateHallModel" 2) {K : Option Value → zzM → Prop} (E : zz_E G (some .boolean) K (fun _ _ _ => False)) (hH : zz_H G []) (hR : zz_Rm G 1) {M : zzM} {bc bs : Nat} (hw : wp_X4_isConceded_B29 (zz_Zof G) K M) : zz_T G 2 M bc bs 29 [] [] := by
  unfold wp_X4_isConceded_B29 at hw
  refine zz_iconst (v := (1 : Int32)) C dX4_isConceded_29 (by decide) ?_
  refine zz_goto (tgt := 34) C dX4_isConceded_30 (by decide) ?_
  refine zz_subP [] rfl ?_
  exact ok_X4_isConceded_B34 C E hH hR hw
theorem ok_X4_isConceded {Z : zzG} {l : Launch} (hl : l.stackTraces = false) {this : Option Nat} {p0 : Int32} {M : zzM} {mc ms : Nat} {K : Option Value → zzM → Prop} (hw : wp_X4_isConceded Z this p0 M K) : zz_Met Z l yX4_isConceded (zz_ws yX4_isConceded cX4_isConceded 2 (some .boolean) none) 1 [va_rf this, .int p0] M mc ms K (fun _ _ _ => False) := by
  refine zz_ofW hl (plainFor_of_name (by decide)) (by simp only [zz_sl0, zz_slI, zz_slJ, zz_slA] <;> decide) (fun G hZ hll C E hH hR hin => ?_)
  subst hZ
  subst hll
  rw [show lv_args 0 [va_rf this, .int p0] = [(0, va_rf this), (1, .int p0)] by simp only [zz_la0, zz_laI, zz_laJ, zz_laA]]
  unfold wp_X4_isConceded at hw
  refine zz_aload_n C dX4_isConceded_0 rfl 0 rfl ?_
  refine zz_getA C dX4_isConceded_1 (Or.inl q2447) zf_16_11_ebateHallModel hw (fun x1 hw => ?_)
  refine zz_getA C dX4_isConceded_4 (Or.inr ⟨_, q2408⟩) zf_17_10_allModel_State hw (fun x2 hw => ?_)
  refine zz_iload_n C dX4_isConceded_7 rfl 1 rfl ?_
  refine zz_iald C dX4_isConceded_8 hw (fun x3 hw => ?_)
  refine zz_iconst (v := (1 : Int32)) C dX4_isConceded_9 (by decide) ?_
  refine zz_icmp_eq (tgt := 29) C dX4_isConceded_10 (by decide) hw (fun hw => ?_) (fun hw => ?_)
  · refine zz_subP [] rfl ?_
    exact ok_X4_isConceded_B29 C E hH hR hw
  · refine zz_iload_n C dX4_isConceded_13 rfl 1 rfl ?_
    refine zz_aload_n C dX4_isConceded_14 rfl 0 rfl ?_
    refine zz_getI C dX4_isConceded_15 (Or.inl q2454) zf_16_18_ebateHallModel hw (fun x4 hw => ?_)
    refine zz_icmp_eq (tgt := 29) C dX4_isConceded_18 (by decide) hw (fun hw => ?_) (fun hw => ?_)
    · refine zz_subP [] rfl ?_
      exact ok_X4_isConceded_B29 C E hH hR hw
    · refine zz_iload_n C dX4_isConceded_21 rfl 1 rfl ?_
      refine zz_aload_n C dX4_isConceded_22 rfl 0 rfl ?_
      refine zz_getI C dX4_isConceded_23 (Or.inl q2455) zf_16_19_ebateHallModel hw (fun x5 hw => ?_)
      refine zz_icmp_ne (tgt := 33) C dX4_isConceded_26 (by decide) hw (fun hw => ?_) (fun hw => ?_)
      · refine zz_iconst (v := (0 : Int32)) C dX4_isConceded_33 (by decide) ?_
        refine zz_subP [] rfl ?_
        exact ok_X4_isConceded_B34 C E hH hR hw
      · refine zz_subP [] rfl ?_
        exact ok_X4_isConceded_B29 C E hH hR hw
abbrev cX5_isStrong : ByteArray := prog_26_method_7_code
def yX5_isStrong : MethodName := ⟨"DebateHallModel$State", "isStrong", "(I)Z"⟩
def dkwX5_isStrong_3 : List UInt8 := [180, 0, 32, 27, 46, 163, 0, 7, 4, 167, 0, 4, 3, 172]
abbrev dktX5_isStrong_3 : List UInt8 := dkwX5_isStrong_3 ++ []
def dkwX5_isStrong_2 : List UInt8 := [163, 0, 7, 4, 167, 0, 32, 3, 167, 0, 28, 42, 180, 0, 32, 42, 180, 0, 38, 27, 46, 46, 42]
abbrev dktX5_isStrong_2 : List UInt8 := dkwX5_isStrong_2 ++ dktX5_isStrong_3
def dkwX5_isStrong_1 : List UInt8 := [154, 0, 33, 42, 180, 0, 32, 42, 180, 0, 38, 27, 46, 46, 5, 42, 180, 0, 32, 27, 46, 104]
abbrev dktX5_isStrong_1 : List UInt8 := dkwX5_isStrong_1 ++ dktX5_isStrong_2
def dkwX5_isStrong_0 : List UInt8 := [42, 180, 0, 26, 27, 46, 4, 159, 0, 5, 3, 172, 42, 180, 0, 26, 42, 180, 0, 38, 27, 46, 46]
abbrev dktX5_isStrong_0 : List UInt8 := dkwX5_isStrong_0 ++ dktX5_isStrong_1
theorem dksX5_isStrong_0 : cX5_isStrong.data.toList.drop 0 = dktX5_isStrong_0 := by decide +kernel
theorem dksX5_isStrong_1 : cX5_isStrong.data.toList.drop 23 = dktX5_isStrong_1 := dk_seg dksX5_isStrong_0 23 rfl rfl
theorem dksX5_isStrong_2 : cX5_isStrong.data.toList.drop 45 = dktX5_isStrong_2 := dk_seg dksX5_isStrong_1 22 rfl rfl
theorem dksX5_isStrong_3 : cX5_isStrong.data.toList.drop 68 = dktX5_isStrong_3 := dk_seg dksX5_isStrong_2 23 rfl rfl
theorem dX5_isStrong_0 : decode cX5_isStrong 0 = .ok (.aload_n 0, 1) := dk_42 (dk_at dksX5_isStrong_0 0 rfl rfl)
theorem dX5_isStrong_1 : decode cX5_isStrong 1 = .ok (.getfield 26, 3) := dk_180 0 26 (dk_at dksX5_isStrong_0 1 rfl rfl)
theorem dX5_isStrong_4 : decode cX5_isStrong 4 = .ok (.iload_n 1, 1) := dk_27 (dk_at dksX5_isStrong_0 4 rfl rfl)
theorem dX5_isStrong_5 : decode cX5_isStrong 5 = .ok (.iaload, 1) := dk_46 (dk_at dksX5_isStrong_0 5 rfl rfl)
theorem dX5_isStrong_6 : decode cX5_isStrong 6 = .ok (.iconst 1, 1) := dk_4 (dk_at dksX5_isStrong_0 6 rfl rfl)
theorem dX5_isStrong_7 : decode cX5_isStrong 7 = .ok (.if_icmp .eq 5, 3) := dk_159 0 5 (dk_at dksX5_isStrong_0 7 rfl rfl)
theorem dX5_isStrong_10 : decode cX5_isStrong 10 = .ok (.iconst 0, 1) := dk_3 (dk_at dksX5_isStrong_0 10 rfl rfl)
theorem dX5_isStrong_11 : decode cX5_isStrong 11 = .ok (.ireturn, 1) := dk_172 (dk_at dksX5_isStrong_0 11 rfl rfl)
theorem dX5_isStrong_12 : decode cX5_isStrong 12 = .ok (.aload_n 0, 1) := dk_42 (dk_at dksX5_isStrong_0 12 rfl rfl)
theorem dX5_isStrong_13 : decode cX5_isStrong 13 = .ok (.getfield 26, 3) := dk_180 0 26 (dk_at dksX5_isStrong_0 13 rfl rfl)
theorem dX5_isStrong_16 : decode cX5_isStrong 16 = .ok (.aload_n 0, 1) := dk_42 (dk_at dksX5_isStrong_0 16 rfl rfl)
theorem dX5_isStrong_17 : decode cX5_isStrong 17 = .ok (.getfield 38, 3) := dk_180 0 38 (dk_at dksX5_isStrong_0 17 rfl rfl)
theorem dX5_isStrong_20 : decode cX5_isStrong 20 = .ok (.iload_n 1, 1) := dk_27 (dk_at dksX5_isStrong_0 20 rfl rfl)
theorem dX5_isStrong_21 : decode cX5_isStrong 21 = .ok (.iaload, 1) := dk_46 (dk_at dksX5_isStrong_0 21 rfl rfl)
theorem dX5_isStrong_22 : decode cX5_isStrong 22 = .ok (.iaload, 1) := dk_46 (dk_at dksX5_isStrong_0 22 rfl rfl)
theorem dX5_isStrong_23 : decode cX5_isStrong 23 = .ok (.ifCond .ne 33, 3) := dk_154 0 33 (dk_at dksX5_isStrong_1 0 rfl rfl)
theorem dX5_isStrong_26 : decode cX5_isStrong 26 = .ok (.aload_n 0, 1) := dk_42 (dk_at dksX5_isStrong_1 3 rfl rfl)
theorem dX5_isStrong_27 : decode cX5_isStrong 27 = .ok (.getfield 32, 3) := dk_180 0 32 (dk_at dksX5_isStrong_1 4 rfl rfl)
theorem dX5_isStrong_30 : decode cX5_isStrong 30 = .ok (.aload_n 0, 1) := dk_42 (dk_at dksX5_isStrong_1 7 rfl rfl)
theorem dX5_isStrong_31 : decode cX5_isStrong 31 = .ok (.getfield 38, 3) := dk_180 0 38 (dk_at dksX5_isStrong_1 8 rfl rfl)
theorem dX5_isStrong_34 : decode cX5_isStrong 34 = .ok (.iload_n 1, 1) := dk_27 (dk_at dksX5_isStrong_1 11 rfl rfl)
theorem dX5_isStrong_35 : decode cX5_isStrong 35 = .ok (.iaload, 1) := dk_46 (dk_at dksX5_isStrong_1 12 rfl rfl)
theorem dX5_isStrong_36 : decode cX5_isStrong 36 = .ok (.iaload, 1) := dk_46 (dk_at dksX5_isStrong_1 13 rfl rfl)
theorem dX5_isStrong_37 : decode cX5_isStrong 37 = .ok (.iconst 2, 1) := dk_5 (dk_at dksX5_isStrong_1 14 rfl rfl)
theorem dX5_isStrong_38 : decode cX5_isStrong 38 = .ok (.aload_n 0, 1) := dk_42 (dk_at dksX5_isStrong_1 15 rfl rfl)
theorem dX5_isStrong_39 : decode cX5_isStrong 39 = .ok (.getfield 32, 3) := dk_180 0 32 (dk_at dksX5_isStrong_1 16 rfl rfl)
theorem dX5_isStrong_42 : decode cX5_isStrong 42 = .ok (.iload_n 1, 1) := dk_27 (dk_at dksX5_isStrong_1 19 rfl rfl)
theorem dX5_isStrong_43 : decode cX5_isStrong 43 = .ok (.iaload, 1) := dk_46 (dk_at dksX5_isStrong_1 20 rfl rfl)
theorem dX5_isStrong_44 : decode cX5_isStrong 44 = .ok (.imul, 1) := dk_104 (dk_at dksX5_isStrong_1 21 rfl rfl)
theorem dX5_isStrong_45 : decode cX5_isStrong 45 = .ok (.if_icmp .gt 7, 3) := dk_163 0 7 (dk_at dksX5_isStrong_2 0 rfl rfl)
theorem dX5_isStrong_48 : decode cX5_isStrong 48 = .ok (.iconst 1, 1) := dk_4 (dk_at dksX5_isStrong_2 3 rfl rfl)
theorem dX5_isStrong_49 : decode cX5_isStrong 49 = .ok (.goto 32, 3) := dk_167 0 32 (dk_at dksX5_isStrong_2 4 rfl rfl)
theorem dX5_isStrong_52 : decode cX5_isStrong 52 = .ok (.iconst 0, 1) := dk_3 (dk_at dksX5_isStrong_2 7 rfl rfl)
theorem dX5_isStrong_53 : decode cX5_isStrong 53 = .ok (.goto 28, 3) := dk_167 0 28 (dk_at dksX5_isStrong_2 8 rfl rfl)
theorem dX5_isStrong_56 : decode cX5_isStrong 56 = .ok (.aload_n 0, 1) := dk_42 (dk_at dksX5_isStrong_2 11 rfl rfl)
theorem dX5_isStrong_57 : decode cX5_isStrong 57 = .ok (.getfield 32, 3) := dk_180 0 32 (dk_at dksX5_isStrong_2 12 rfl rfl)
theorem dX5_isStrong_60 : decode cX5_isStrong 60 = .ok (.aload_n 0, 1) := dk_42 (dk_at dksX5_isStrong_2 15 rfl rfl)
theorem dX5_isStrong_61 : decode cX5_isStrong 61 = .ok (.getfield 38, 3) := dk_180 0 38 (dk_at dksX5_isStrong_2 16 rfl rfl)
theorem dX5_isStrong_64 : decode cX5_isStrong 64 = .ok (.iload_n 1, 1) := dk_27 (dk_at dksX5_isStrong_2 19 rfl rfl)
theorem dX5_isStrong_65 : decode cX5_isStrong 65 = .ok (.iaload, 1) := dk_46 (dk_at dksX5_isStrong_2 20 rfl rfl)
theorem dX5_isStrong_66 : decode cX5_isStrong 66 = .ok (.iaload, 1) := dk_46 (dk_at dksX5_isStrong_2 21 rfl rfl)
theorem dX5_isStrong_67 : decode cX5_isStrong 67 = .ok (.aload_n 0, 1) := dk_42 (dk_at dksX5_isStrong_2 22 rfl rfl)
theorem dX5_isStrong_68 : decode cX5_isStrong 68 = .ok (.getfield 32, 3) := dk_180 0 32 (dk_at dksX5_isStrong_3 0 rfl rfl)
theorem dX5_isStrong_71 : decode cX5_isStrong 71 = .ok (.iload_n 1, 1) := dk_27 (dk_at dksX5_isStrong_3 3 rfl rfl)
theorem dX5_isStrong_72 : decode cX5_isStrong 72 = .ok (.iaload, 1) := dk_46 (dk_at dksX5_isStrong_3 4 rfl rfl)
theorem dX5_isStrong_73 : decode cX5_isStrong 73 = .ok (.if_icmp .gt 7, 3) := dk_163 0 7 (dk_at dksX5_isStrong_3 5 rfl rfl)
theorem dX5_isStrong_76 : decode cX5_isStrong 76 = .ok (.iconst 1, 1) := dk_4 (dk_at dksX5_isStrong_3 8 rfl rfl)
theorem dX5_isStrong_77 : decode cX5_isStrong 77 = .ok (.goto 4, 3) := dk_167 0 4 (dk_at dksX5_isStrong_3 9 rfl rfl)
theorem dX5_isStrong_80 : decode cX5_isStrong 80 = .ok (.iconst 0, 1) := dk_3 (dk_at dksX5_isStrong_3 12 rfl rfl)
theorem dX5_isStrong_81 : decode cX5_isStrong 81 = .ok (.ireturn, 1) := dk_172 (dk_at dksX5_isStrong_3 13 rfl rfl)
def wp_X5_isStrong_B81 (Z : zzG) (K : Option Value → zzM → Prop) (s0 : Int32) (M : zzM) : Prop := narrow .boolean (.int s0) = .int s0 ∧ K (some (.int s0)) M
def wp_X5_isStrong (Z : zzG) (this : Option Nat) (p0 : Int32) (M : zzM) (K : Option Value → zzM → Prop) : Prop := zgA Z M this [17] 5 fun x1 => zaI Z M x1 [100] p0 fun x2 => if x2 = (1 : Int32) then (zgA Z M this [17] 5 fun x3 => zgA Z M this [17] 9 fun x4 => zaI Z M x4 [100] p0 fun x5 => zaI Z M x3 [100] x5 fun x6 => if x6 = 0 then (zgA Z M this [17] 7 fun x13 => zgA Z M this [17] 9 fun x14 => zaI Z M x14 [100] p0 fun x15 => zaI Z M x13 [100] x15 fun x16 => zgA Z M this [17] 7 fun x17 => zaI Z M x17 [100] p0 fun x18 => if ((2 : Int32) * x18) < x16 then (wp_X5_isStrong_B81 Z K (0 : Int32) M) else (wp_X5_isStrong_B81 Z K (1 : Int32) M)) else (zgA Z M this [17] 7 fun x7 => zgA Z M this [17] 9 fun x8 => zaI Z M x8 [100] p0 fun x9 => zaI Z M x7 [100] x9 fun x10 => zgA Z M this [17] 7 fun x11 => zaI Z M x11 [100] p0 fun x12 => if x12 < x10 then (wp_X5_isStrong_B81 Z K (0 : Int32) M) else (wp_X5_isStrong_B81 Z K (1 : Int32) M))) else (narrow .boolean (.int (0 : Int32)) = .int (0 : Int32) ∧ K (some (.int (0 : Int32))) M)
theorem ok_X5_isStrong_B81 {G : zzX} (C : zz_C G cX5_isStrong "DebateHallModel$State" 2) {K : Option Value → zzM → Prop} (E : zz_E G (some .boolean) K (fun _ _ _ => False)) (hH : zz_H G []) (hR : zz_Rm G 1) {s0 : Int32} {M : zzM} {bc bs : Nat} (hw : wp_X5_isStrong_B81 (zz_Zof G) K s0 M) : zz_T G 2 M bc bs 81 [] [.int s0] := by
  unfold wp_X5_isStrong_B81 at hw
  exact zz_zret C E dX5_isStrong_81 hw
theorem ok_X5_isStrong {Z : zzG} {l : Launch} (hl : l.stackTraces = false) {this : Option Nat} {p0 : Int32} {M : zzM} {mc ms : Nat} {K : Option Value → zzM → Prop} (hw : wp_X5_isStrong Z this p0 M K) : zz_Met Z l yX5_isStrong (zz_ws yX5_isStrong cX5_isStrong 2 (some .boolean) none) 1 [va_rf this, .int p0] M mc ms K (fun _ _ _ => False) := by
  refine zz_ofW hl (plainFor_of_name (by decide)) (by simp only [zz_sl0, zz_slI, zz_slJ, zz_slA] <;> decide) (fun G hZ hll C E hH hR hin => ?_)
  subst hZ
  subst hll
  rw [show lv_args 0 [va_rf this, .int p0] = [(0, va_rf this), (1, .int p0)] by simp only [zz_la0, zz_laI, zz_laJ, zz_laA]]
  unfold wp_X5_isStrong at hw
  refine zz_aload_n C dX5_isStrong_0 rfl 0 rfl ?_
  refine zz_getA C dX5_isStrong_1 (Or.inl q2397) zf_17_5_allModel_State hw (fun x1 hw => ?_)
  refine zz_iload_n C dX5_isStrong_4 rfl 1 rfl ?_
  refine zz_iald C dX5_isStrong_5 hw (fun x2 hw => ?_)
  refine zz_iconst (v := (1 : Int32)) C dX5_isStrong_6 (by decide) ?_
  refine zz_icmp_eq (tgt := 12) C dX5_isStrong_7 (by decide) hw (fun hw => ?_) (fun hw => ?_)
  · refine zz_aload_n C dX5_isStrong_12 rfl 0 rfl ?_
    refine zz_getA C dX5_isStrong_13 (Or.inl q2397) zf_17_5_allModel_State hw (fun x3 hw => ?_)
    refine zz_aload_n C dX5_isStrong_16 rfl 0 rfl ?_
    refine zz_getA C dX5_isStrong_17 (Or.inl q2405) zf_17_9_allModel_State hw (fun x4 hw => ?_)
    refine zz_iload_n C dX5_isStrong_20 rfl 1 rfl ?_
    refine zz_iald C dX5_isStrong_21 hw (fun x5 hw => ?_)
    refine zz_iald C dX5_isStrong_22 hw (fun x6 hw => ?_)
    refine zz_if_ne (tgt := 56) C dX5_isStrong_23 (by decide) hw (fun hw => ?_) (fun hw => ?_)
    · refine zz_aload_n C dX5_isStrong_56 rfl 0 rfl ?_
      refine zz_getA C dX5_isStrong_57 (Or.inl q2401) zf_17_7_allModel_State hw (fun x7 hw => ?_)
      refine zz_aload_n C dX5_isStrong_60 rfl 0 rfl ?_
      refine zz_getA C dX5_isStrong_61 (Or.inl q2405) zf_17_9_allModel_State hw (fun x8 hw => ?_)
      refine zz_iload_n C dX5_isStrong_64 rfl 1 rfl ?_
      refine zz_iald C dX5_isStrong_65 hw (fun x9 hw => ?_)
      refine zz_iald C dX5_isStrong_66 hw (fun x10 hw => ?_)
      refine zz_aload_n C dX5_isStrong_67 rfl 0 rfl ?_
      refine zz_getA C dX5_isStrong_68 (Or.inl q2401) zf_17_7_allModel_State hw (fun x11 hw => ?_)
      refine zz_iload_n C dX5_isStrong_71 rfl 1 rfl ?_
      refine zz_iald C dX5_isStrong_72 hw (fun x12 hw => ?_)
      refine zz_icmp_gt (tgt := 80) C dX5_isStrong_73 (by decide) hw (fun hw => ?_) (fun hw => ?_)
      · refine zz_iconst (v := (0 : Int32)) C dX5_isStrong_80 (by decide) ?_
        refine zz_subP [] rfl ?_
        exact ok_X5_isStrong_B81 C E hH hR hw
      · refine zz_iconst (v := (1 : Int32)) C dX5_isStrong_76 (by decide) ?_
        refine zz_goto (tgt := 81) C dX5_isStrong_77 (by decide) ?_
        refine zz_subP [] rfl ?_
        exact ok_X5_isStrong_B81 C E hH hR hw
    · refine zz_aload_n C dX5_isStrong_26 rfl 0 rfl ?_
      refine zz_getA C dX5_isStrong_27 (Or.inl q2401) zf_17_7_allModel_State hw (fun x13 hw => ?_)
      refine zz_aload_n C dX5_isStrong_30 rfl 0 rfl ?_
      refine zz_getA C dX5_isStrong_31 (Or.inl q2405) zf_17_9_allModel_State hw (fun x14 hw => ?_)
      refine zz_iload_n C dX5_isStrong_34 rfl 1 rfl ?_
      refine zz_iald C dX5_isStrong_35 hw (fun x15 hw => ?_)
      refine zz_iald C dX5_isStrong_36 hw (fun x16 hw => ?_)
      refine zz_iconst (v := (2 : Int32)) C dX5_isStrong_37 (by decide) ?_
      refine zz_aload_n C dX5_isStrong_38 rfl 0 rfl ?_
      refine zz_getA C dX5_isStrong_39 (Or.inl q2401) zf_17_7_allModel_State hw (fun x17 hw => ?_)
      refine zz_iload_n C dX5_isStrong_42 rfl 1 rfl ?_
      refine zz_iald C dX5_isStrong_43 hw (fun x18 hw => ?_)
      refine zz_imul C dX5_isStrong_44 ?_
      refine zz_icmp_gt (tgt := 52) C dX5_isStrong_45 (by decide) hw (fun hw => ?_) (fun hw => ?_)
      · refine zz_iconst (v := (0 : Int32)) C dX5_isStrong_52 (by decide) ?_
        refine zz_goto (tgt := 81) C dX5_isStrong_53 (by decide) ?_
        refine zz_subP [] rfl ?_
        exact ok_X5_isStrong_B81 C E hH hR hw
      · refine zz_iconst (v := (1 : Int32)) C dX5_isStrong_48 (by decide) ?_
        refine zz_goto (tgt := 81) C dX5_isStrong_49 (by decide) ?_
        refine zz_subP [] rfl ?_
        exact ok_X5_isStrong_B81 C E hH hR hw
  · refine zz_iconst (v := (0 : Int32)) C dX5_isStrong_10 (by decide) ?_
    exact zz_zret C E dX5_isStrong_11 hw
abbrev cX4_score : ByteArray := prog_25_method_12_code
def yX4_score : MethodName := ⟨"DebateHallModel", "score", "(I[I)I"⟩
def dkwX4_score_11 : List UInt8 := [21, 4, 46, 96, 62, 132, 4, 1, 167, 255, 10, 29, 172]
abbrev dktX4_score_11 : List UInt8 := dkwX4_score_11 ++ []
def dkwX4_score_10 : List UInt8 := [21, 6, 46, 27, 160, 0, 24, 44, 21, 6, 46, 4, 160, 0, 16, 29, 42, 180, 0, 48, 180, 0, 127]
abbrev dktX4_score_10 : List UInt8 := dkwX4_score_10 ++ dktX4_score_11
def dkwX4_score_9 : List UInt8 := [46, 54, 6, 42, 180, 0, 48, 180, 0, 124, 21, 6, 46, 154, 0, 38, 42, 180, 0, 48, 180, 0, 121]
abbrev dktX4_score_9 : List UInt8 := dkwX4_score_9 ++ dktX4_score_10
def dkwX4_score_8 : List UInt8 := [5, 159, 0, 6, 167, 0, 71, 21, 5, 153, 0, 6, 132, 3, 1, 42, 180, 0, 48, 180, 0, 111, 21, 4]
abbrev dktX4_score_8 : List UInt8 := dkwX4_score_8 ++ dktX4_score_9
def dkwX4_score_7 : List UInt8 := [42, 180, 0, 48, 180, 0, 127, 21, 4, 46, 5, 108, 96, 62, 42, 180, 0, 48, 180, 0, 124, 21, 4, 46]
abbrev dktX4_score_7 : List UInt8 := dkwX4_score_7 ++ dktX4_score_8
def dkwX4_score_6 : List UInt8 := [159, 0, 6, 167, 0, 120, 21, 5, 153, 0, 30, 42, 180, 0, 48, 21, 4, 182, 0, 108, 153, 0, 18, 29]
abbrev dktX4_score_6 : List UInt8 := dkwX4_score_6 ++ dktX4_score_7
def dkwX4_score_5 : List UInt8 := [180, 0, 48, 180, 0, 127, 21, 4, 46, 5, 108, 167, 0, 4, 3, 96, 62, 44, 21, 4, 46, 4]
abbrev dktX4_score_5 : List UInt8 := dkwX4_score_5 ++ dktX4_score_6
def dkwX4_score_4 : List UInt8 := [160, 0, 16, 42, 180, 0, 48, 180, 0, 127, 21, 4, 46, 167, 0, 26, 44, 21, 4, 46, 154, 0, 18, 42]
abbrev dktX4_score_4 : List UInt8 := dkwX4_score_4 ++ dktX4_score_5
def dkwX4_score_3 : List UInt8 := [153, 0, 63, 42, 180, 0, 48, 180, 0, 124, 21, 4, 46, 154, 0, 50, 29, 44, 21, 4, 46, 4]
abbrev dktX4_score_3 : List UInt8 := dkwX4_score_3 ++ dktX4_score_4
def dkwX4_score_2 : List UInt8 := [3, 54, 5, 21, 5, 153, 0, 15, 42, 21, 4, 182, 0, 104, 153, 0, 6, 132, 3, 255, 21, 5]
abbrev dktX4_score_2 : List UInt8 := dkwX4_score_2 ++ dktX4_score_3
def dkwX4_score_1 : List UInt8 := [180, 0, 95, 162, 0, 240, 42, 180, 0, 48, 180, 0, 121, 21, 4, 46, 27, 160, 0, 7, 4, 167, 0, 4]
abbrev dktX4_score_1 : List UInt8 := dkwX4_score_1 ++ dktX4_score_2
def dkwX4_score_0 : List UInt8 := [42, 180, 0, 48, 180, 0, 118, 27, 46, 16, 60, 108, 62, 3, 54, 4, 21, 4, 42, 180, 0, 48]
abbrev dktX4_score_0 : List UInt8 := dkwX4_score_0 ++ dktX4_score_1
theorem dksX4_score_0 : cX4_score.data.toList.drop 0 = dktX4_score_0 := by decide +kernel
theorem dksX4_score_1 : cX4_score.data.toList.drop 22 = dktX4_score_1 := dk_seg dksX4_score_0 22 rfl rfl
theorem dksX4_score_2 : cX4_score.data.toList.drop 46 = dktX4_score_2 := dk_seg dksX4_score_1 24 rfl rfl
theorem dksX4_score_3 : cX4_score.data.toList.drop 68 = dktX4_score_3 := dk_seg dksX4_score_2 22 rfl rfl
theorem dksX4_score_4 : cX4_score.data.toList.drop 90 = dktX4_score_4 := dk_seg dksX4_score_3 22 rfl rfl
theorem dksX4_score_5 : cX4_score.data.toList.drop 114 = dktX4_score_5 := dk_seg dksX4_score_4 24 rfl rfl
theorem dksX4_score_6 : cX4_score.data.toList.drop 136 = dktX4_score_6 := dk_seg dksX4_score_5 22 rfl rfl
theorem dksX4_score_7 : cX4_score.data.toList.drop 160 = dktX4_score_7 := dk_seg dksX4_score_6 24 rfl rfl
theorem dksX4_score_8 : cX4_score.data.toList.drop 184 = dktX4_score_8 := dk_seg dksX4_score_7 24 rfl rfl
theorem dksX4_score_9 : cX4_score.data.toList.drop 208 = dktX4_score_9 := dk_seg dksX4_score_8 24 rfl rfl
theorem dksX4_score_10 : cX4_score.data.toList.drop 231 = dktX4_score_10 := dk_seg dksX4_score_9 23 rfl rfl
theorem dksX4_score_11 : cX4_score.data.toList.drop 254 = dktX4_score_11 := dk_seg dksX4_score_10 23 rfl rfl
theorem dX4_score_0 : decode cX4_score 0 = .ok (.aload_n 0, 1) := dk_42 (dk_at dksX4_score_0 0 rfl rfl)
theorem dX4_score_1 : decode cX4_score 1 = .ok (.getfield 48, 3) := dk_180 0 48 (dk_at dksX4_score_0 1 rfl rfl)
theorem dX4_score_4 : decode cX4_score 4 = .ok (.getfield 118, 3) := dk_180 0 118 (dk_at dksX4_score_0 4 rfl rfl)
theorem dX4_score_7 : decode cX4_score 7 = .ok (.iload_n 1, 1) := dk_27 (dk_at dksX4_score_0 7 rfl rfl)
theorem dX4_score_8 : decode cX4_score 8 = .ok (.iaload, 1) := dk_46 (dk_at dksX4_score_0 8 rfl rfl)
theorem dX4_score_9 : decode cX4_score 9 = .ok (.bipush 60, 2) := dk_16 60 (dk_at dksX4_score_0 9 rfl rfl)
theorem dX4_score_11 : decode cX4_score 11 = .ok (.idiv, 1) := dk_108 (dk_at dksX4_score_0 11 rfl rfl)
theorem dX4_score_12 : decode cX4_score 12 = .ok (.istore_n 3, 1) := dk_62 (dk_at dksX4_score_0 12 rfl rfl)
theorem dX4_score_13 : decode cX4_score 13 = .ok (.iconst 0, 1) := dk_3 (dk_at dksX4_score_0 13 rfl rfl)
theorem dX4_score_14 : decode cX4_score 14 = .ok (.istore 4, 2) := dk_54 4 (dk_at dksX4_score_0 14 rfl rfl)
theorem dX4_score_16 : decode cX4_score 16 = .ok (.iload 4, 2) := dk_21 4 (dk_at dksX4_score_0 16 rfl rfl)
theorem dX4_score_18 : decode cX4_score 18 = .ok (.aload_n 0, 1) := dk_42 (dk_at dksX4_score_0 18 rfl rfl)
theorem dX4_score_19 : decode cX4_score 19 = .ok (.getfield 48, 3) := dk_180 0 48 (dk_at dksX4_score_0 19 rfl rfl)
theorem dX4_score_22 : decode cX4_score 22 = .ok (.getfield 95, 3) := dk_180 0 95 (dk_at dksX4_score_1 0 rfl rfl)
theorem dX4_score_25 : decode cX4_score 25 = .ok (.if_icmp .ge 240, 3) := dk_162 0 240 (dk_at dksX4_score_1 3 rfl rfl)
theorem dX4_score_28 : decode cX4_score 28 = .ok (.aload_n 0, 1) := dk_42 (dk_at dksX4_score_1 6 rfl rfl)
theorem dX4_score_29 : decode cX4_score 29 = .ok (.getfield 48, 3) := dk_180 0 48 (dk_at dksX4_score_1 7 rfl rfl)
theorem dX4_score_32 : decode cX4_score 32 = .ok (.getfield 121, 3) := dk_180 0 121 (dk_at dksX4_score_1 10 rfl rfl)
theorem dX4_score_35 : decode cX4_score 35 = .ok (.iload 4, 2) := dk_21 4 (dk_at dksX4_score_1 13 rfl rfl)
theorem dX4_score_37 : decode cX4_score 37 = .ok (.iaload, 1) := dk_46 (dk_at dksX4_score_1 15 rfl rfl)
theorem dX4_score_38 : decode cX4_score 38 = .ok (.iload_n 1, 1) := dk_27 (dk_at dksX4_score_1 16 rfl rfl)
theorem dX4_score_39 : decode cX4_score 39 = .ok (.if_icmp .ne 7, 3) := dk_160 0 7 (dk_at dksX4_score_1 17 rfl rfl)
theorem dX4_score_42 : decode cX4_score 42 = .ok (.iconst 1, 1) := dk_4 (dk_at dksX4_score_1 20 rfl rfl)
theorem dX4_score_43 : decode cX4_score 43 = .ok (.goto 4, 3) := dk_167 0 4 (dk_at dksX4_score_1 21 rfl rfl)
theorem dX4_score_46 : decode cX4_score 46 = .ok (.iconst 0, 1) := dk_3 (dk_at dksX4_score_2 0 rfl rfl)
theorem dX4_score_47 : decode cX4_score 47 = .ok (.istore 5, 2) := dk_54 5 (dk_at dksX4_score_2 1 rfl rfl)
theorem dX4_score_49 : decode cX4_score 49 = .ok (.iload 5, 2) := dk_21 5 (dk_at dksX4_score_2 3 rfl rfl)
theorem dX4_score_51 : decode cX4_score 51 = .ok (.ifCond .eq 15, 3) := dk_153 0 15 (dk_at dksX4_score_2 5 rfl rfl)
theorem dX4_score_54 : decode cX4_score 54 = .ok (.aload_n 0, 1) := dk_42 (dk_at dksX4_score_2 8 rfl rfl)
theorem dX4_score_55 : decode cX4_score 55 = .ok (.iload 4, 2) := dk_21 4 (dk_at dksX4_score_2 9 rfl rfl)
theorem dX4_score_57 : decode cX4_score 57 = .ok (.invokevirtual 104, 3) := dk_182 0 104 (dk_at dksX4_score_2 11 rfl rfl)
theorem dX4_score_60 : decode cX4_score 60 = .ok (.ifCond .eq 6, 3) := dk_153 0 6 (dk_at dksX4_score_2 14 rfl rfl)
theorem dX4_score_63 : decode cX4_score 63 = .ok (.iinc 3 (-1), 3) := dk_132 3 255 (dk_at dksX4_score_2 17 rfl rfl)
theorem dX4_score_66 : decode cX4_score 66 = .ok (.iload 5, 2) := dk_21 5 (dk_at dksX4_score_2 20 rfl rfl)
theorem dX4_score_68 : decode cX4_score 68 = .ok (.ifCond .eq 63, 3) := dk_153 0 63 (dk_at dksX4_score_3 0 rfl rfl)
theorem dX4_score_71 : decode cX4_score 71 = .ok (.aload_n 0, 1) := dk_42 (dk_at dksX4_score_3 3 rfl rfl)
theorem dX4_score_72 : decode cX4_score 72 = .ok (.getfield 48, 3) := dk_180 0 48 (dk_at dksX4_score_3 4 rfl rfl)
theorem dX4_score_75 : decode cX4_score 75 = .ok (.getfield 124, 3) := dk_180 0 124 (dk_at dksX4_score_3 7 rfl rfl)
theorem dX4_score_78 : decode cX4_score 78 = .ok (.iload 4, 2) := dk_21 4 (dk_at dksX4_score_3 10 rfl rfl)
theorem dX4_score_80 : decode cX4_score 80 = .ok (.iaload, 1) := dk_46 (dk_at dksX4_score_3 12 rfl rfl)
theorem dX4_score_81 : decode cX4_score 81 = .ok (.ifCond .ne 50, 3) := dk_154 0 50 (dk_at dksX4_score_3 13 rfl rfl)
theorem dX4_score_84 : decode cX4_score 84 = .ok (.iload_n 3, 1) := dk_29 (dk_at dksX4_score_3 16 rfl rfl)
theorem dX4_score_85 : decode cX4_score 85 = .ok (.aload_n 2, 1) := dk_44 (dk_at dksX4_score_3 17 rfl rfl)
theorem dX4_score_86 : decode cX4_score 86 = .ok (.iload 4, 2) := dk_21 4 (dk_at dksX4_score_3 18 rfl rfl)
theorem dX4_score_88 : decode cX4_score 88 = .ok (.iaload, 1) := dk_46 (dk_at dksX4_score_3 20 rfl rfl)
theorem dX4_score_89 : decode cX4_score 89 = .ok (.iconst 1, 1) := dk_4 (dk_at dksX4_score_3 21 rfl rfl)
theorem dX4_score_90 : decode cX4_score 90 = .ok (.if_icmp .ne 16, 3) := dk_160 0 16 (dk_at dksX4_score_4 0 rfl rfl)
theorem dX4_score_93 : decode cX4_score 93 = .ok (.aload_n 0, 1) := dk_42 (dk_at dksX4_score_4 3 rfl rfl)
theorem dX4_score_94 : decode cX4_score 94 = .ok (.getfield 48, 3) := dk_180 0 48 (dk_at dksX4_score_4 4 rfl rfl)
theorem dX4_score_97 : decode cX4_score 97 = .ok (.getfield 127, 3) := dk_180 0 127 (dk_at dksX4_score_4 7 rfl rfl)
theorem dX4_score_100 : decode cX4_score 100 = .ok (.iload 4, 2) := dk_21 4 (dk_at dksX4_score_4 10 rfl rfl)
theorem dX4_score_102 : decode cX4_score 102 = .ok (.iaload, 1) := dk_46 (dk_at dksX4_score_4 12 rfl rfl)
theorem dX4_score_103 : decode cX4_score 103 = .ok (.goto 26, 3) := dk_167 0 26 (dk_at dksX4_score_4 13 rfl rfl)
theorem dX4_score_106 : decode cX4_score 106 = .ok (.aload_n 2, 1) := dk_44 (dk_at dksX4_score_4 16 rfl rfl)
theorem dX4_score_107 : decode cX4_score 107 = .ok (.iload 4, 2) := dk_21 4 (dk_at dksX4_score_4 17 rfl rfl)
theorem dX4_score_109 : decode cX4_score 109 = .ok (.iaload, 1) := dk_46 (dk_at dksX4_score_4 19 rfl rfl)
theorem dX4_score_110 : decode cX4_score 110 = .ok (.ifCond .ne 18, 3) := dk_154 0 18 (dk_at dksX4_score_4 20 rfl rfl)
theorem dX4_score_113 : decode cX4_score 113 = .ok (.aload_n 0, 1) := dk_42 (dk_at dksX4_score_4 23 rfl rfl)
theorem dX4_score_114 : decode cX4_score 114 = .ok (.getfield 48, 3) := dk_180 0 48 (dk_at dksX4_score_5 0 rfl rfl)
theorem dX4_score_117 : decode cX4_score 117 = .ok (.getfield 127, 3) := dk_180 0 127 (dk_at dksX4_score_5 3 rfl rfl)
theorem dX4_score_120 : decode cX4_score 120 = .ok (.iload 4, 2) := dk_21 4 (dk_at dksX4_score_5 6 rfl rfl)
theorem dX4_score_122 : decode cX4_score 122 = .ok (.iaload, 1) := dk_46 (dk_at dksX4_score_5 8 rfl rfl)
theorem dX4_score_123 : decode cX4_score 123 = .ok (.iconst 2, 1) := dk_5 (dk_at dksX4_score_5 9 rfl rfl)
theorem dX4_score_124 : decode cX4_score 124 = .ok (.idiv, 1) := dk_108 (dk_at dksX4_score_5 10 rfl rfl)
theorem dX4_score_125 : decode cX4_score 125 = .ok (.goto 4, 3) := dk_167 0 4 (dk_at dksX4_score_5 11 rfl rfl)
theorem dX4_score_128 : decode cX4_score 128 = .ok (.iconst 0, 1) := dk_3 (dk_at dksX4_score_5 14 rfl rfl)
theorem dX4_score_129 : decode cX4_score 129 = .ok (.iadd, 1) := dk_96 (dk_at dksX4_score_5 15 rfl rfl)
theorem dX4_score_130 : decode cX4_score 130 = .ok (.istore_n 3, 1) := dk_62 (dk_at dksX4_score_5 16 rfl rfl)
theorem dX4_score_131 : decode cX4_score 131 = .ok (.aload_n 2, 1) := dk_44 (dk_at dksX4_score_5 17 rfl rfl)
theorem dX4_score_132 : decode cX4_score 132 = .ok (.iload 4, 2) := dk_21 4 (dk_at dksX4_score_5 18 rfl rfl)
theorem dX4_score_134 : decode cX4_score 134 = .ok (.iaload, 1) := dk_46 (dk_at dksX4_score_5 20 rfl rfl)
theorem dX4_score_135 : decode cX4_score 135 = .ok (.iconst 1, 1) := dk_4 (dk_at dksX4_score_5 21 rfl rfl)
theorem dX4_score_136 : decode cX4_score 136 = .ok (.if_icmp .eq 6, 3) := dk_159 0 6 (dk_at dksX4_score_6 0 rfl rfl)
theorem dX4_score_139 : decode cX4_score 139 = .ok (.goto 120, 3) := dk_167 0 120 (dk_at dksX4_score_6 3 rfl rfl)
theorem dX4_score_142 : decode cX4_score 142 = .ok (.iload 5, 2) := dk_21 5 (dk_at dksX4_score_6 6 rfl rfl)
theorem dX4_score_144 : decode cX4_score 144 = .ok (.ifCond .eq 30, 3) := dk_153 0 30 (dk_at dksX4_score_6 8 rfl rfl)
theorem dX4_score_147 : decode cX4_score 147 = .ok (.aload_n 0, 1) := dk_42 (dk_at dksX4_score_6 11 rfl rfl)
theorem dX4_score_148 : decode cX4_score 148 = .ok (.getfield 48, 3) := dk_180 0 48 (dk_at dksX4_score_6 12 rfl rfl)
theorem dX4_score_151 : decode cX4_score 151 = .ok (.iload 4, 2) := dk_21 4 (dk_at dksX4_score_6 15 rfl rfl)
theorem dX4_score_153 : decode cX4_score 153 = .ok (.invokevirtual 108, 3) := dk_182 0 108 (dk_at dksX4_score_6 17 rfl rfl)
theorem dX4_score_156 : decode cX4_score 156 = .ok (.ifCond .eq 18, 3) := dk_153 0 18 (dk_at dksX4_score_6 20 rfl rfl)
theorem dX4_score_159 : decode cX4_score 159 = .ok (.iload_n 3, 1) := dk_29 (dk_at dksX4_score_6 23 rfl rfl)
theorem dX4_score_160 : decode cX4_score 160 = .ok (.aload_n 0, 1) := dk_42 (dk_at dksX4_score_7 0 rfl rfl)
theorem dX4_score_161 : decode cX4_score 161 = .ok (.getfield 48, 3) := dk_180 0 48 (dk_at dksX4_score_7 1 rfl rfl)
theorem dX4_score_164 : decode cX4_score 164 = .ok (.getfield 127, 3) := dk_180 0 127 (dk_at dksX4_score_7 4 rfl rfl)
theorem dX4_score_167 : decode cX4_score 167 = .ok (.iload 4, 2) := dk_21 4 (dk_at dksX4_score_7 7 rfl rfl)
theorem dX4_score_169 : decode cX4_score 169 = .ok (.iaload, 1) := dk_46 (dk_at dksX4_score_7 9 rfl rfl)
theorem dX4_score_170 : decode cX4_score 170 = .ok (.iconst 2, 1) := dk_5 (dk_at dksX4_score_7 10 rfl rfl)
theorem dX4_score_171 : decode cX4_score 171 = .ok (.idiv, 1) := dk_108 (dk_at dksX4_score_7 11 rfl rfl)
theorem dX4_score_172 : decode cX4_score 172 = .ok (.iadd, 1) := dk_96 (dk_at dksX4_score_7 12 rfl rfl)
theorem dX4_score_173 : decode cX4_score 173 = .ok (.istore_n 3, 1) := dk_62 (dk_at dksX4_score_7 13 rfl rfl)
theorem dX4_score_174 : decode cX4_score 174 = .ok (.aload_n 0, 1) := dk_42 (dk_at dksX4_score_7 14 rfl rfl)
theorem dX4_score_175 : decode cX4_score 175 = .ok (.getfield 48, 3) := dk_180 0 48 (dk_at dksX4_score_7 15 rfl rfl)
theorem dX4_score_178 : decode cX4_score 178 = .ok (.getfield 124, 3) := dk_180 0 124 (dk_at dksX4_score_7 18 rfl rfl)
theorem dX4_score_181 : decode cX4_score 181 = .ok (.iload 4, 2) := dk_21 4 (dk_at dksX4_score_7 21 rfl rfl)
theorem dX4_score_183 : decode cX4_score 183 = .ok (.iaload, 1) := dk_46 (dk_at dksX4_score_7 23 rfl rfl)
theorem dX4_score_184 : decode cX4_score 184 = .ok (.iconst 2, 1) := dk_5 (dk_at dksX4_score_8 0 rfl rfl)
theorem dX4_score_185 : decode cX4_score 185 = .ok (.if_icmp .eq 6, 3) := dk_159 0 6 (dk_at dksX4_score_8 1 rfl rfl)
theorem dX4_score_188 : decode cX4_score 188 = .ok (.goto 71, 3) := dk_167 0 71 (dk_at dksX4_score_8 4 rfl rfl)
theorem dX4_score_191 : decode cX4_score 191 = .ok (.iload 5, 2) := dk_21 5 (dk_at dksX4_score_8 7 rfl rfl)
theorem dX4_score_193 : decode cX4_score 193 = .ok (.ifCond .eq 6, 3) := dk_153 0 6 (dk_at dksX4_score_8 9 rfl rfl)
theorem dX4_score_196 : decode cX4_score 196 = .ok (.iinc 3 1, 3) := dk_132 3 1 (dk_at dksX4_score_8 12 rfl rfl)
theorem dX4_score_199 : decode cX4_score 199 = .ok (.aload_n 0, 1) := dk_42 (dk_at dksX4_score_8 15 rfl rfl)
theorem dX4_score_200 : decode cX4_score 200 = .ok (.getfield 48, 3) := dk_180 0 48 (dk_at dksX4_score_8 16 rfl rfl)
theorem dX4_score_203 : decode cX4_score 203 = .ok (.getfield 111, 3) := dk_180 0 111 (dk_at dksX4_score_8 19 rfl rfl)
theorem dX4_score_206 : decode cX4_score 206 = .ok (.iload 4, 2) := dk_21 4 (dk_at dksX4_score_8 22 rfl rfl)
theorem dX4_score_208 : decode cX4_score 208 = .ok (.iaload, 1) := dk_46 (dk_at dksX4_score_9 0 rfl rfl)
theorem dX4_score_209 : decode cX4_score 209 = .ok (.istore 6, 2) := dk_54 6 (dk_at dksX4_score_9 1 rfl rfl)
theorem dX4_score_211 : decode cX4_score 211 = .ok (.aload_n 0, 1) := dk_42 (dk_at dksX4_score_9 3 rfl rfl)
theorem dX4_score_212 : decode cX4_score 212 = .ok (.getfield 48, 3) := dk_180 0 48 (dk_at dksX4_score_9 4 rfl rfl)
theorem dX4_score_215 : decode cX4_score 215 = .ok (.getfield 124, 3) := dk_180 0 124 (dk_at dksX4_score_9 7 rfl rfl)
theorem dX4_score_218 : decode cX4_score 218 = .ok (.iload 6, 2) := dk_21 6 (dk_at dksX4_score_9 10 rfl rfl)
theorem dX4_score_220 : decode cX4_score 220 = .ok (.iaload, 1) := dk_46 (dk_at dksX4_score_9 12 rfl rfl)
theorem dX4_score_221 : decode cX4_score 221 = .ok (.ifCond .ne 38, 3) := dk_154 0 38 (dk_at dksX4_score_9 13 rfl rfl)
theorem dX4_score_224 : decode cX4_score 224 = .ok (.aload_n 0, 1) := dk_42 (dk_at dksX4_score_9 16 rfl rfl)
theorem dX4_score_225 : decode cX4_score 225 = .ok (.getfield 48, 3) := dk_180 0 48 (dk_at dksX4_score_9 17 rfl rfl)
theorem dX4_score_228 : decode cX4_score 228 = .ok (.getfield 121, 3) := dk_180 0 121 (dk_at dksX4_score_9 20 rfl rfl)
theorem dX4_score_231 : decode cX4_score 231 = .ok (.iload 6, 2) := dk_21 6 (dk_at dksX4_score_10 0 rfl rfl)
theorem dX4_score_233 : decode cX4_score 233 = .ok (.iaload, 1) := dk_46 (dk_at dksX4_score_10 2 rfl rfl)
theorem dX4_score_234 : decode cX4_score 234 = .ok (.iload_n 1, 1) := dk_27 (dk_at dksX4_score_10 3 rfl rfl)
theorem dX4_score_235 : decode cX4_score 235 = .ok (.if_icmp .ne 24, 3) := dk_160 0 24 (dk_at dksX4_score_10 4 rfl rfl)
theorem dX4_score_238 : decode cX4_score 238 = .ok (.aload_n 2, 1) := dk_44 (dk_at dksX4_score_10 7 rfl rfl)
theorem dX4_score_239 : decode cX4_score 239 = .ok (.iload 6, 2) := dk_21 6 (dk_at dksX4_score_10 8 rfl rfl)
theorem dX4_score_241 : decode cX4_score 241 = .ok (.iaload, 1) := dk_46 (dk_at dksX4_score_10 10 rfl rfl)
theorem dX4_score_242 : decode cX4_score 242 = .ok (.iconst 1, 1) := dk_4 (dk_at dksX4_score_10 11 rfl rfl)
theorem dX4_score_243 : decode cX4_score 243 = .ok (.if_icmp .ne 16, 3) := dk_160 0 16 (dk_at dksX4_score_10 12 rfl rfl)
theorem dX4_score_246 : decode cX4_score 246 = .ok (.iload_n 3, 1) := dk_29 (dk_at dksX4_score_10 15 rfl rfl)
theorem dX4_score_247 : decode cX4_score 247 = .ok (.aload_n 0, 1) := dk_42 (dk_at dksX4_score_10 16 rfl rfl)
theorem dX4_score_248 : decode cX4_score 248 = .ok (.getfield 48, 3) := dk_180 0 48 (dk_at dksX4_score_10 17 rfl rfl)
theorem dX4_score_251 : decode cX4_score 251 = .ok (.getfield 127, 3) := dk_180 0 127 (dk_at dksX4_score_10 20 rfl rfl)
theorem dX4_score_254 : decode cX4_score 254 = .ok (.iload 4, 2) := dk_21 4 (dk_at dksX4_score_11 0 rfl rfl)
theorem dX4_score_256 : decode cX4_score 256 = .ok (.iaload, 1) := dk_46 (dk_at dksX4_score_11 2 rfl rfl)
theorem dX4_score_257 : decode cX4_score 257 = .ok (.iadd, 1) := dk_96 (dk_at dksX4_score_11 3 rfl rfl)
theorem dX4_score_258 : decode cX4_score 258 = .ok (.istore_n 3, 1) := dk_62 (dk_at dksX4_score_11 4 rfl rfl)
theorem dX4_score_259 : decode cX4_score 259 = .ok (.iinc 4 1, 3) := dk_132 4 1 (dk_at dksX4_score_11 5 rfl rfl)
theorem dX4_score_262 : decode cX4_score 262 = .ok (.goto (-246), 3) := dk_167 255 10 (dk_at dksX4_score_11 8 rfl rfl)
theorem dX4_score_265 : decode cX4_score 265 = .ok (.iload_n 3, 1) := dk_29 (dk_at dksX4_score_11 11 rfl rfl)
theorem dX4_score_266 : decode cX4_score 266 = .ok (.ireturn, 1) := dk_172 (dk_at dksX4_score_11 12 rfl rfl)
theorem q2392 : (Jvm.Cond.fieldLinkNest "DebateHallModel" (118 : Nat) "DebateHallModel$State" "time" "[I" "DebateHallModel") ∈ lw_tbl := lw_at lw_m10 152 rfl
theorem q2400 : (Jvm.Cond.fieldLinkNest "DebateHallModel" (121 : Nat) "DebateHallModel$State" "by" "[I" "DebateHallModel") ∈ lw_tbl := lw_at lw_m10 160 rfl
theorem q2703 : (Jvm.Cond.code ({ cls := "DebateHallModel", name := "isConceded", desc := "(I)Z" } : Jvm.MethodName) prog_25_method_9_code (2 : Nat) (Option.some Jvm.ClassFile.FieldType.boolean)) ∈ lw_all := lw_g (lw_at lw_m11 223 rfl) rfl
theorem zk_X4_isConceded : zz_cd yX4_isConceded cX4_isConceded 2 (some .boolean) none ∈ lw_all := q2703
theorem zy_X4_isConceded : zz_yok yX4_isConceded 1 = true := by decide +kernel
theorem q2700 : (Jvm.Cond.methodLink "DebateHallModel" (104 : Nat) ({ cls := "DebateHallModel", name := "isConceded", desc := "(I)Z" } : Jvm.MethodName)) ∈ lw_all := lw_g (lw_at lw_m11 220 rfl) rfl
theorem zl_DebateHallModel : Cond.initialized "DebateHallModel" ∈ lw_all := q93
theorem q2702 : (Jvm.Cond.instanceMethod ({ cls := "DebateHallModel", name := "isConceded", desc := "(I)Z" } : Jvm.MethodName)) ∈ lw_all := lw_g (lw_at lw_m11 222 rfl) rfl
theorem q2402 : (Jvm.Cond.fieldLinkNest "DebateHallModel" (127 : Nat) "DebateHallModel$State" "size" "[I" "DebateHallModel") ∈ lw_tbl := lw_at lw_m10 162 rfl
theorem q2695 : (Jvm.Cond.code ({ cls := "DebateHallModel$State", name := "isStrong", desc := "(I)Z" } : Jvm.MethodName) prog_26_method_7_code (2 : Nat) (Option.some Jvm.ClassFile.FieldType.boolean)) ∈ lw_all := lw_g (lw_at lw_m11 215 rfl) rfl
theorem zk_X5_isStrong : zz_cd yX5_isStrong cX5_isStrong 2 (some .boolean) none ∈ lw_all := q2695
theorem zy_X5_isStrong : zz_yok yX5_isStrong 1 = true := by decide +kernel
theorem q2692 : (Jvm.Cond.methodLink "DebateHallModel" (108 : Nat) ({ cls := "DebateHallModel$State", name := "isStrong", desc := "(I)Z" } : Jvm.MethodName)) ∈ lw_all := lw_g (lw_at lw_m11 212 rfl) rfl
theorem q2693 : (Jvm.Cond.instanceMethod ({ cls := "DebateHallModel$State", name := "isStrong", desc := "(I)Z" } : Jvm.MethodName)) ∈ lw_all := lw_g (lw_at lw_m11 213 rfl) rfl
theorem q2694 : (Jvm.Cond.selects "DebateHallModel$State" ({ cls := "DebateHallModel$State", name := "isStrong", desc := "(I)Z" } : Jvm.MethodName) ({ cls := "DebateHallModel$State", name := "isStrong", desc := "(I)Z" } : Jvm.MethodName)) ∈ lw_all := lw_g (lw_at lw_m11 214 rfl) rfl
theorem q2406 : (Jvm.Cond.fieldLinkNest "DebateHallModel" (111 : Nat) "DebateHallModel$State" "target" "[I" "DebateHallModel") ∈ lw_tbl := lw_at lw_m10 166 rfl
def wp_X4_score_B259 (Z : zzG) (k16 : Option Nat → Int32 → Option Nat → Int32 → Int32 → zzM → Prop) (K : Option Value → zzM → Prop) (v0 : Option Nat) (v1 : Int32) (v2 : Option Nat) (v3 : Int32) (v4 : Int32) (M : zzM) : Prop := k16 v0 v1 v2 v3 (v4 + 1) M
def wp_X4_score_B199 (Z : zzG) (k16 : Option Nat → Int32 → Option Nat → Int32 → Int32 → zzM → Prop) (K : Option Value → zzM → Prop) (v0 : Option Nat) (v1 : Int32) (v2 : Option Nat) (v3 : Int32) (v4 : Int32) (M : zzM) : Prop := zgA Z M v0 [16] 11 fun x38 => zgA Z M x38 [17] 9 fun x39 => zaI Z M x39 [100] v4 fun x40 => zgA Z M v0 [16] 11 fun x41 => zgA Z M x41 [17] 5 fun x42 => zaI Z M x42 [100] x40 fun x43 => if x43 = 0 then (zgA Z M v0 [16] 11 fun x44 => zgA Z M x44 [17] 6 fun x45 => zaI Z M x45 [100] x40 fun x46 => if x46 = v1 then (zaI Z M v2 [100] x40 fun x47 => if x47 = (1 : Int32) then (zgA Z M v0 [16] 11 fun x48 => zgA Z M x48 [17] 7 fun x49 => zaI Z M x49 [100] v4 fun x50 => wp_X4_score_B259 Z k16 K v0 v1 v2 (v3 + x50) v4 M) else (wp_X4_score_B259 Z k16 K v0 v1 v2 v3 v4 M)) else (wp_X4_score_B259 Z k16 K v0 v1 v2 v3 v4 M)) else (wp_X4_score_B259 Z k16 K v0 v1 v2 v3 v4 M)
def wp_X4_score_B174 (Z : zzG) (k16 : Option Nat → Int32 → Option Nat → Int32 → Int32 → zzM → Prop) (K : Option Value → zzM → Prop) (v0 : Option Nat) (v1 : Int32) (v2 : Option Nat) (v3 : Int32) (v4 : Int32) (v5 : Int32) (M : zzM) : Prop := zgA Z M v0 [16] 11 fun x35 => zgA Z M x35 [17] 5 fun x36 => zaI Z M x36 [100] v4 fun x37 => if x37 = (2 : Int32) then (if v5 = 0 then (wp_X4_score_B199 Z k16 K v0 v1 v2 v3 v4 M) else (wp_X4_score_B199 Z k16 K v0 v1 v2 (v3 + 1) v4 M)) else (wp_X4_score_B259 Z k16 K v0 v1 v2 v3 v4 M)
def wp_X4_score_B131 (Z : zzG) (k16 : Option Nat → Int32 → Option Nat → Int32 → Int32 → zzM → Prop) (K : Option Value → zzM → Prop) (v0 : Option Nat) (v1 : Int32) (v2 : Option Nat) (v3 : Int32) (v4 : Int32) (v5 : Int32) (M : zzM) : Prop := zaI Z M v2 [100] v4 fun x25 => if x25 = (1 : Int32) then (if v5 = 0 then (wp_X4_score_B174 Z k16 K v0 v1 v2 v3 v4 v5 M) else (zgA Z M v0 [16] 11 fun x26 => zty Z M x26 fun t => t = 17 ∧ wp_X5_isStrong Z x26 v4 M (fun r27 M28 => zrI r27 fun x31 => if x31 = 0 then (wp_X4_score_B174 Z k16 K v0 v1 v2 v3 v4 v5 M28) else (zgA Z M28 v0 [16] 11 fun x32 => zgA Z M28 x32 [17] 7 fun x33 => zaI Z M28 x33 [100] v4 fun x34 => ¬ (2 : Int32) = 0 ∧ wp_X4_score_B174 Z k16 K v0 v1 v2 (v3 + (x34 / (2 : Int32))) v4 v5 M28)))) else (wp_X4_score_B259 Z k16 K v0 v1 v2 v3 v4 M)
def wp_X4_score_B129 (Z : zzG) (k16 : Option Nat → Int32 → Option Nat → Int32 → Int32 → zzM → Prop) (K : Option Value → zzM → Prop) (v0 : Option Nat) (v1 : Int32) (v2 : Option Nat) (v4 : Int32) (v5 : Int32) (s0 : Int32) (s1 : Int32) (M : zzM) : Prop := wp_X4_score_B131 Z k16 K v0 v1 v2 (s1 + s0) v4 v5 M
def wp_X4_score_B66 (Z : zzG) (k16 : Option Nat → Int32 → Option Nat → Int32 → Int32 → zzM → Prop) (K : Option Value → zzM → Prop) (v0 : Option Nat) (v1 : Int32) (v2 : Option Nat) (v3 : Int32) (v4 : Int32) (v5 : Int32) (M : zzM) : Prop := if v5 = 0 then (wp_X4_score_B131 Z k16 K v0 v1 v2 v3 v4 v5 M) else (zgA Z M v0 [16] 11 fun x14 => zgA Z M x14 [17] 5 fun x15 => zaI Z M x15 [100] v4 fun x16 => if x16 = 0 then (zaI Z M v2 [100] v4 fun x17 => if x17 = (1 : Int32) then (zgA Z M v0 [16] 11 fun x22 => zgA Z M x22 [17] 7 fun x23 => zaI Z M x23 [100] v4 fun x24 => wp_X4_score_B129 Z k16 K v0 v1 v2 v4 v5 x24 v3 M) else (zaI Z M v2 [100] v4 fun x18 => if x18 = 0 then (zgA Z M v0 [16] 11 fun x19 => zgA Z M x19 [17] 7 fun x20 => zaI Z M x20 [100] v4 fun x21 => ¬ (2 : Int32) = 0 ∧ wp_X4_score_B129 Z k16 K v0 v1 v2 v4 v5 (x21 / (2 : Int32)) v3 M) else (wp_X4_score_B129 Z k16 K v0 v1 v2 v4 v5 (0 : Int32) v3 M))) else (wp_X4_score_B131 Z k16 K v0 v1 v2 v3 v4 v5 M))
def wp_X4_score_B47 (Z : zzG) (k16 : Option Nat → Int32 → Option Nat → Int32 → Int32 → zzM → Prop) (K : Option Value → zzM → Prop) (v0 : Option Nat) (v1 : Int32) (v2 : Option Nat) (v3 : Int32) (v4 : Int32) (s0 : Int32) (M : zzM) : Prop := if s0 = 0 then (wp_X4_score_B66 Z k16 K v0 v1 v2 v3 v4 s0 M) else (zty Z M v0 fun t => t = 16 ∧ wp_X4_isConceded Z v0 v4 M (fun r9 M10 => zrI r9 fun x13 => if x13 = 0 then (wp_X4_score_B66 Z k16 K v0 v1 v2 v3 v4 s0 M10) else (wp_X4_score_B66 Z k16 K v0 v1 v2 (v3 + (-1)) v4 s0 M10)))
def wp_X4_score_L16 (Z : zzG) (K : Option Value → zzM → Prop) : Nat → Option Nat → Int32 → Option Nat → Int32 → Int32 → zzM → Prop
  | 0, _, _, _, _, _, _ => False
  | n + 1, v0, v1, v2, v3, v4, M => zgA Z M v0 [16] 11 fun x4 => zgI Z M x4 [17] 3 fun x5 => if x5 ≤ v4 then (K (some (.int v3)) M) else (zgA Z M v0 [16] 11 fun x6 => zgA Z M x6 [17] 6 fun x7 => zaI Z M x7 [100] v4 fun x8 => if x8 = v1 then (wp_X4_score_B47 Z (wp_X4_score_L16 Z K n) K v0 v1 v2 v3 v4 (1 : Int32) M) else (wp_X4_score_B47 Z (wp_X4_score_L16 Z K n) K v0 v1 v2 v3 v4 (0 : Int32) M))
def wp_X4_score (Z : zzG) (this : Option Nat) (p0 : Int32) (p1 : Option Nat) (M : zzM) (K : Option Value → zzM → Prop) : Prop := zgA Z M this [16] 11 fun x1 => zgA Z M x1 [17] 2 fun x2 => zaI Z M x2 [100] p0 fun x3 => ¬ (60 : Int32) = 0 ∧ ∃ n16 : Nat, wp_X4_score_L16 Z K n16 this p0 p1 (x3 / (60 : Int32)) (0 : Int32) M
theorem ok_X4_score_B259 {G : zzX} (C : zz_C G cX4_score "DebateHallModel" 7) {K : Option Value → zzM → Prop} (E : zz_E G (some .int) K (fun _ _ _ => False)) (hH : zz_H G []) (hR : zz_Rm G 2) {k16 : Option Nat → Int32 → Option Nat → Int32 → Int32 → zzM → Prop} (hk16 : ∀ (z0 : Option Nat) (z1 : Int32) (z2 : Option Nat) (z3 : Int32) (z4 : Int32) (M : zzM) (bc bs : Nat), k16 z0 z1 z2 z3 z4 M → zz_T G 7 M bc bs 16 [(0, va_rf z0), (1, .int z1), (2, va_rf z2), (3, .int z3), (4, .int z4)] []) {v0 : Option Nat} {v1 : Int32} {v2 : Option Nat} {v3 : Int32} {v4 : Int32} {M : zzM} {bc bs : Nat} (hw : wp_X4_score_B259 (zz_Zof G) k16 K v0 v1 v2 v3 v4 M) : zz_T G 7 M bc bs 259 [(0, va_rf v0), (1, .int v1), (2, va_rf v2), (3, .int v3), (4, .int v4)] [] := by
  unfold wp_X4_score_B259 at hw
  refine zz_iinc (lv' := [(4, .int (v4 + 1)), (0, va_rf v0), (1, .int v1), (2, va_rf v2), (3, .int v3)]) C dX4_score_259 4 rfl (by rfl) (by decide) rfl ?_
  refine zz_goto (tgt := 16) C dX4_score_262 (by decide) ?_
  refine zz_subP [1, 2, 3, 4, 0] rfl ?_
  exact hk16 _ _ _ _ _ _ _ _ hw
theorem ok_X4_score_B199 {G : zzX} (C : zz_C G cX4_score "DebateHallModel" 7) {K : Option Value → zzM → Prop} (E : zz_E G (some .int) K (fun _ _ _ => False)) (hH : zz_H G []) (hR : zz_Rm G 2) {k16 : Option Nat → Int32 → Option Nat → Int32 → Int32 → zzM → Prop} (hk16 : ∀ (z0 : Option Nat) (z1 : Int32) (z2 : Option Nat) (z3 : Int32) (z4 : Int32) (M : zzM) (bc bs : Nat), k16 z0 z1 z2 z3 z4 M → zz_T G 7 M bc bs 16 [(0, va_rf z0), (1, .int z1), (2, va_rf z2), (3, .int z3), (4, .int z4)] []) {v0 : Option Nat} {v1 : Int32} {v2 : Option Nat} {v3 : Int32} {v4 : Int32} {M : zzM} {bc bs : Nat} (hw : wp_X4_score_B199 (zz_Zof G) k16 K v0 v1 v2 v3 v4 M) : zz_T G 7 M bc bs 199 [(0, va_rf v0), (1, .int v1), (2, va_rf v2), (3, .int v3), (4, .int v4)] [] := by
  unfold wp_X4_score_B199 at hw
  refine zz_aload_n C dX4_score_199 rfl 0 rfl ?_
  refine zz_getA C dX4_score_200 (Or.inl q2447) zf_16_11_ebateHallModel hw (fun x38 hw => ?_)
  refine zz_getA C dX4_score_203 (Or.inr ⟨_, q2406⟩) zf_17_9_allModel_State hw (fun x39 hw => ?_)
  refine zz_iload C dX4_score_206 4 rfl ?_
  refine zz_iald C dX4_score_208 hw (fun x40 hw => ?_)
  refine zz_istore (lv' := [(6, .int x40), (0, va_rf v0), (1, .int v1), (2, va_rf v2), (3, .int v3), (4, .int v4)]) C dX4_score_209 (by decide) rfl ?_
  refine zz_aload_n C dX4_score_211 rfl 1 rfl ?_
  refine zz_getA C dX4_score_212 (Or.inl q2447) zf_16_11_ebateHallModel hw (fun x41 hw => ?_)
  refine zz_getA C dX4_score_215 (Or.inr ⟨_, q2398⟩) zf_17_5_allModel_State hw (fun x42 hw => ?_)
  refine zz_iload C dX4_score_218 0 rfl ?_
  refine zz_iald C dX4_score_220 hw (fun x43 hw => ?_)
  refine zz_if_ne (tgt := 259) C dX4_score_221 (by decide) hw (fun hw => ?_) (fun hw => ?_)
  · refine zz_subP [1, 2, 3, 4, 5] rfl ?_
    exact ok_X4_score_B259 C E hH hR hk16 hw
  · refine zz_aload_n C dX4_score_224 rfl 1 rfl ?_
    refine zz_getA C dX4_score_225 (Or.inl q2447) zf_16_11_ebateHallModel hw (fun x44 hw => ?_)
    refine zz_getA C dX4_score_228 (Or.inr ⟨_, q2400⟩) zf_17_6_allModel_State hw (fun x45 hw => ?_)
    refine zz_iload C dX4_score_231 0 rfl ?_
    refine zz_iald C dX4_score_233 hw (fun x46 hw => ?_)
    refine zz_iload_n C dX4_score_234 rfl 2 rfl ?_
    refine zz_icmp_ne (tgt := 259) C dX4_score_235 (by decide) hw (fun hw => ?_) (fun hw => ?_)
    · refine zz_subP [1, 2, 3, 4, 5] rfl ?_
      exact ok_X4_score_B259 C E hH hR hk16 hw
    · refine zz_aload_n C dX4_score_238 rfl 3 rfl ?_
      refine zz_iload C dX4_score_239 0 rfl ?_
      refine zz_iald C dX4_score_241 hw (fun x47 hw => ?_)
      refine zz_iconst (v := (1 : Int32)) C dX4_score_242 (by decide) ?_
      refine zz_icmp_ne (tgt := 259) C dX4_score_243 (by decide) hw (fun hw => ?_) (fun hw => ?_)
      · refine zz_subP [1, 2, 3, 4, 5] rfl ?_
        exact ok_X4_score_B259 C E hH hR hk16 hw
      · refine zz_iload_n C dX4_score_246 rfl 4 rfl ?_
        refine zz_aload_n C dX4_score_247 rfl 1 rfl ?_
        refine zz_getA C dX4_score_248 (Or.inl q2447) zf_16_11_ebateHallModel hw (fun x48 hw => ?_)
        refine zz_getA C dX4_score_251 (Or.inr ⟨_, q2402⟩) zf_17_7_allModel_State hw (fun x49 hw => ?_)
        refine zz_iload C dX4_score_254 5 rfl ?_
        refine zz_iald C dX4_score_256 hw (fun x50 hw => ?_)
        refine zz_iadd C dX4_score_257 ?_
        refine zz_istore_n (i := 3) (lv' := [(3, .int (v3 + x50)), (6, .int x40), (0, va_rf v0), (1, .int v1), (2, va_rf v2), (4, .int v4)]) C dX4_score_258 rfl (by decide) (by simp [zz_cat, zz_catI, zz_catJ, zz_catD]) ?_
        refine zz_subP [2, 3, 4, 0, 5] rfl ?_
        exact ok_X4_score_B259 C E hH hR hk16 hw
theorem ok_X4_score_B174 {G : zzX} (C : zz_C G cX4_score "DebateHallModel" 7) {K : Option Value → zzM → Prop} (E : zz_E G (some .int) K (fun _ _ _ => False)) (hH : zz_H G []) (hR : zz_Rm G 2) {k16 : Option Nat → Int32 → Option Nat → Int32 → Int32 → zzM → Prop} (hk16 : ∀ (z0 : Option Nat) (z1 : Int32) (z2 : Option Nat) (z3 : Int32) (z4 : Int32) (M : zzM) (bc bs : Nat), k16 z0 z1 z2 z3 z4 M → zz_T G 7 M bc bs 16 [(0, va_rf z0), (1, .int z1), (2, va_rf z2), (3, .int z3), (4, .int z4)] []) {v0 : Option Nat} {v1 : Int32} {v2 : Option Nat} {v3 : Int32} {v4 : Int32} {v5 : Int32} {M : zzM} {bc bs : Nat} (hw : wp_X4_score_B174 (zz_Zof G) k16 K v0 v1 v2 v3 v4 v5 M) : zz_T G 7 M bc bs 174 [(0, va_rf v0), (1, .int v1), (2, va_rf v2), (3, .int v3), (4, .int v4), (5, .int v5)] [] := by
  unfold wp_X4_score_B174 at hw
  refine zz_aload_n C dX4_score_174 rfl 0 rfl ?_
  refine zz_getA C dX4_score_175 (Or.inl q2447) zf_16_11_ebateHallModel hw (fun x35 hw => ?_)
  refine zz_getA C dX4_score_178 (Or.inr ⟨_, q2398⟩) zf_17_5_allModel_State hw (fun x36 hw => ?_)
  refine zz_iload C dX4_score_181 4 rfl ?_
  refine zz_iald C dX4_score_183 hw (fun x37 hw => ?_)
  refine zz_iconst (v := (2 : Int32)) C dX4_score_184 (by decide) ?_
  refine zz_icmp_eq (tgt := 191) C dX4_score_185 (by decide) hw (fun hw => ?_) (fun hw => ?_)
  · refine zz_iload C dX4_score_191 5 rfl ?_
    refine zz_if_eq (tgt := 199) C dX4_score_193 (by decide) hw (fun hw => ?_) (fun hw => ?_)
    · refine zz_subP [0, 1, 2, 3, 4] rfl ?_
      exact ok_X4_score_B199 C E hH hR hk16 hw
    · refine zz_iinc (lv' := [(3, .int (v3 + 1)), (0, va_rf v0), (1, .int v1), (2, va_rf v2), (4, .int v4), (5, .int v5)]) C dX4_score_196 3 rfl (by rfl) (by decide) (by simp [zz_cat, zz_catI, zz_catJ, zz_catD]) ?_
      refine zz_subP [1, 2, 3, 0, 4] rfl ?_
      exact ok_X4_score_B199 C E hH hR hk16 hw
  · refine zz_goto (tgt := 259) C dX4_score_188 (by decide) ?_
    refine zz_subP [0, 1, 2, 3, 4] rfl ?_
    exact ok_X4_score_B259 C E hH hR hk16 hw
theorem ok_X4_score_B131 {G : zzX} (C : zz_C G cX4_score "DebateHallModel" 7) {K : Option Value → zzM → Prop} (E : zz_E G (some .int) K (fun _ _ _ => False)) (hH : zz_H G []) (hR : zz_Rm G 2) {k16 : Option Nat → Int32 → Option Nat → Int32 → Int32 → zzM → Prop} (hk16 : ∀ (z0 : Option Nat) (z1 : Int32) (z2 : Option Nat) (z3 : Int32) (z4 : Int32) (M : zzM) (bc bs : Nat), k16 z0 z1 z2 z3 z4 M → zz_T G 7 M bc bs 16 [(0, va_rf z0), (1, .int z1), (2, va_rf z2), (3, .int z3), (4, .int z4)] []) {v0 : Option Nat} {v1 : Int32} {v2 : Option Nat} {v3 : Int32} {v4 : Int32} {v5 : Int32} {M : zzM} {bc bs : Nat} (hw : wp_X4_score_B131 (zz_Zof G) k16 K v0 v1 v2 v3 v4 v5 M) : zz_T G 7 M bc bs 131 [(0, va_rf v0), (1, .int v1), (2, va_rf v2), (3, .int v3), (4, .int v4), (5, .int v5)] [] := by
  unfold wp_X4_score_B131 at hw
  refine zz_aload_n C dX4_score_131 rfl 2 rfl ?_
  refine zz_iload C dX4_score_132 4 rfl ?_
  refine zz_iald C dX4_score_134 hw (fun x25 hw => ?_)
  refine zz_iconst (v := (1 : Int32)) C dX4_score_135 (by decide) ?_
  refine zz_icmp_eq (tgt := 142) C dX4_score_136 (by decide) hw (fun hw => ?_) (fun hw => ?_)
  · refine zz_iload C dX4_score_142 5 rfl ?_
    refine zz_if_eq (tgt := 174) C dX4_score_144 (by decide) hw (fun hw => ?_) (fun hw => ?_)
    · refine zz_subP [0, 1, 2, 3, 4, 5] rfl ?_
      exact ok_X4_score_B174 C E hH hR hk16 hw
    · refine zz_aload_n C dX4_score_147 rfl 0 rfl ?_
      refine zz_getA C dX4_score_148 (Or.inl q2447) zf_16_11_ebateHallModel hw (fun x26 hw => ?_)
      refine zz_iload C dX4_score_151 4 rfl ?_
      obtain ⟨a9, t9, b9, fs9, hro, hL, rfl, hw⟩ := ztyS hw
      refine zz_callV (r := (zR_17, zT_17, 12)) (As := [.int v4]) (rest := []) (mc := 0) (ms := 0) C hR hro dX4_score_153 (Or.inl q2692) q2693 (Or.inl q2694) zl_DebateHallModel_State zk_X5_isStrong (Or.inl rfl) zy_X5_isStrong rfl (by decide) (by decide) hL (ok_X5_isStrong (zz_hl C) hw) (Nat.zero_le _) (Nat.zero_le _) (zz_cat10 _ (Nat.le_of_ble_eq_true rfl)) (fun r27 M28 hw => zz_kI hw (fun x31 hw => ?_)) (fun _ _ _ h9 => h9.elim) rfl
      refine zz_if_eq (tgt := 174) C dX4_score_156 (by decide) hw (fun hw => ?_) (fun hw => ?_)
      · refine zz_subP [0, 1, 2, 3, 4, 5] rfl ?_
        exact ok_X4_score_B174 C E hH hR hk16 hw
      · refine zz_iload_n C dX4_score_159 rfl 3 rfl ?_
        refine zz_aload_n C dX4_score_160 rfl 0 rfl ?_
        refine zz_getA C dX4_score_161 (Or.inl q2447) zf_16_11_ebateHallModel hw (fun x32 hw => ?_)
        refine zz_getA C dX4_score_164 (Or.inr ⟨_, q2402⟩) zf_17_7_allModel_State hw (fun x33 hw => ?_)
        refine zz_iload C dX4_score_167 4 rfl ?_
        refine zz_iald C dX4_score_169 hw (fun x34 hw => ?_)
        refine zz_iconst (v := (2 : Int32)) C dX4_score_170 (by decide) ?_
        obtain ⟨hne, hw⟩ := hw
        refine zz_idiv C dX4_score_171 hne ?_
        refine zz_iadd C dX4_score_172 ?_
        refine zz_istore_n (i := 3) (lv' := [(3, .int (v3 + (x34 / (2 : Int32)))), (0, va_rf v0), (1, .int v1), (2, va_rf v2), (4, .int v4), (5, .int v5)]) C dX4_score_173 rfl (by decide) (by simp [zz_cat, zz_catI, zz_catJ, zz_catD]) ?_
        refine zz_subP [1, 2, 3, 0, 4, 5] rfl ?_
        exact ok_X4_score_B174 C E hH hR hk16 hw
  · refine zz_goto (tgt := 259) C dX4_score_139 (by decide) ?_
    refine zz_subP [0, 1, 2, 3, 4] rfl ?_
    exact ok_X4_score_B259 C E hH hR hk16 hw
theorem ok_X4_score_B129 {G : zzX} (C : zz_C G cX4_score "DebateHallModel" 7) {K : Option Value → zzM → Prop} (E : zz_E G (some .int) K (fun _ _ _ => False)) (hH : zz_H G []) (hR : zz_Rm G 2) {k16 : Option Nat → Int32 → Option Nat → Int32 → Int32 → zzM → Prop} (hk16 : ∀ (z0 : Option Nat) (z1 : Int32) (z2 : Option Nat) (z3 : Int32) (z4 : Int32) (M : zzM) (bc bs : Nat), k16 z0 z1 z2 z3 z4 M → zz_T G 7 M bc bs 16 [(0, va_rf z0), (1, .int z1), (2, va_rf z2), (3, .int z3), (4, .int z4)] []) {v0 : Option Nat} {v1 : Int32} {v2 : Option Nat} {v4 : Int32} {v5 : Int32} {s0 : Int32} {s1 : Int32} {M : zzM} {bc bs : Nat} (hw : wp_X4_score_B129 (zz_Zof G) k16 K v0 v1 v2 v4 v5 s0 s1 M) : zz_T G 7 M bc bs 129 [(0, va_rf v0), (1, .int v1), (2, va_rf v2), (4, .int v4), (5, .int v5)] [.int s0, .int s1] := by
  unfold wp_X4_score_B129 at hw
  refine zz_iadd C dX4_score_129 ?_
  refine zz_istore_n (i := 3) (lv' := [(3, .int (s1 + s0)), (0, va_rf v0), (1, .int v1), (2, va_rf v2), (4, .int v4), (5, .int v5)]) C dX4_score_130 rfl (by decide) (by simp [zz_cat, zz_catI, zz_catJ, zz_catD]) ?_
  refine zz_subP [1, 2, 3, 0, 4, 5] rfl ?_
  exact ok_X4_score_B131 C E hH hR hk16 hw
theorem ok_X4_score_B66 {G : zzX} (C : zz_C G cX4_score "DebateHallModel" 7) {K : Option Value → zzM → Prop} (E : zz_E G (some .int) K (fun _ _ _ => False)) (hH : zz_H G []) (hR : zz_Rm G 2) {k16 : Option Nat → Int32 → Option Nat → Int32 → Int32 → zzM → Prop} (hk16 : ∀ (z0 : Option Nat) (z1 : Int32) (z2 : Option Nat) (z3 : Int32) (z4 : Int32) (M : zzM) (bc bs : Nat), k16 z0 z1 z2 z3 z4 M → zz_T G 7 M bc bs 16 [(0, va_rf z0), (1, .int z1), (2, va_rf z2), (3, .int z3), (4, .int z4)] []) {v0 : Option Nat} {v1 : Int32} {v2 : Option Nat} {v3 : Int32} {v4 : Int32} {v5 : Int32} {M : zzM} {bc bs : Nat} (hw : wp_X4_score_B66 (zz_Zof G) k16 K v0 v1 v2 v3 v4 v5 M) : zz_T G 7 M bc bs 66 [(0, va_rf v0), (1, .int v1), (2, va_rf v2), (3, .int v3), (4, .int v4), (5, .int v5)] [] := by
  unfold wp_X4_score_B66 at hw
  refine zz_iload C dX4_score_66 5 rfl ?_
  refine zz_if_eq (tgt := 131) C dX4_score_68 (by decide) hw (fun hw => ?_) (fun hw => ?_)
  · refine zz_subP [0, 1, 2, 3, 4, 5] rfl ?_
    exact ok_X4_score_B131 C E hH hR hk16 hw
  · refine zz_aload_n C dX4_score_71 rfl 0 rfl ?_
    refine zz_getA C dX4_score_72 (Or.inl q2447) zf_16_11_ebateHallModel hw (fun x14 hw => ?_)
    refine zz_getA C dX4_score_75 (Or.inr ⟨_, q2398⟩) zf_17_5_allModel_State hw (fun x15 hw => ?_)
    refine zz_iload C dX4_score_78 4 rfl ?_
    refine zz_iald C dX4_score_80 hw (fun x16 hw => ?_)
    refine zz_if_ne (tgt := 131) C dX4_score_81 (by decide) hw (fun hw => ?_) (fun hw => ?_)
    · refine zz_subP [0, 1, 2, 3, 4, 5] rfl ?_
      exact ok_X4_score_B131 C E hH hR hk16 hw
    · refine zz_iload_n C dX4_score_84 rfl 3 rfl ?_
      refine zz_aload_n C dX4_score_85 rfl 2 rfl ?_
      refine zz_iload C dX4_score_86 4 rfl ?_
      refine zz_iald C dX4_score_88 hw (fun x17 hw => ?_)
      refine zz_iconst (v := (1 : Int32)) C dX4_score_89 (by decide) ?_
      refine zz_icmp_ne (tgt := 106) C dX4_score_90 (by decide) hw (fun hw => ?_) (fun hw => ?_)
      · refine zz_aload_n C dX4_score_106 rfl 2 rfl ?_
        refine zz_iload C dX4_score_107 4 rfl ?_
        refine zz_iald C dX4_score_109 hw (fun x18 hw => ?_)
        refine zz_if_ne (tgt := 128) C dX4_score_110 (by decide) hw (fun hw => ?_) (fun hw => ?_)
        · refine zz_iconst (v := (0 : Int32)) C dX4_score_128 (by decide) ?_
          refine zz_subP [0, 1, 2, 4, 5] rfl ?_
          exact ok_X4_score_B129 C E hH hR hk16 hw
        · refine zz_aload_n C dX4_score_113 rfl 0 rfl ?_
          refine zz_getA C dX4_score_114 (Or.inl q2447) zf_16_11_ebateHallModel hw (fun x19 hw => ?_)
          refine zz_getA C dX4_score_117 (Or.inr ⟨_, q2402⟩) zf_17_7_allModel_State hw (fun x20 hw => ?_)
          refine zz_iload C dX4_score_120 4 rfl ?_
          refine zz_iald C dX4_score_122 hw (fun x21 hw => ?_)
          refine zz_iconst (v := (2 : Int32)) C dX4_score_123 (by decide) ?_
          obtain ⟨hne, hw⟩ := hw
          refine zz_idiv C dX4_score_124 hne ?_
          refine zz_goto (tgt := 129) C dX4_score_125 (by decide) ?_
          refine zz_subP [0, 1, 2, 4, 5] rfl ?_
          exact ok_X4_score_B129 C E hH hR hk16 hw
      · refine zz_aload_n C dX4_score_93 rfl 0 rfl ?_
        refine zz_getA C dX4_score_94 (Or.inl q2447) zf_16_11_ebateHallModel hw (fun x22 hw => ?_)
        refine zz_getA C dX4_score_97 (Or.inr ⟨_, q2402⟩) zf_17_7_allModel_State hw (fun x23 hw => ?_)
        refine zz_iload C dX4_score_100 4 rfl ?_
        refine zz_iald C dX4_score_102 hw (fun x24 hw => ?_)
        refine zz_goto (tgt := 129) C dX4_score_103 (by decide) ?_
        refine zz_subP [0, 1, 2, 4, 5] rfl ?_
        exact ok_X4_score_B129 C E hH hR hk16 hw
theorem ok_X4_score_B47 {G : zzX} (C : zz_C G cX4_score "DebateHallModel" 7) {K : Option Value → zzM → Prop} (E : zz_E G (some .int) K (fun _ _ _ => False)) (hH : zz_H G []) (hR : zz_Rm G 2) {k16 : Option Nat → Int32 → Option Nat → Int32 → Int32 → zzM → Prop} (hk16 : ∀ (z0 : Option Nat) (z1 : Int32) (z2 : Option Nat) (z3 : Int32) (z4 : Int32) (M : zzM) (bc bs : Nat), k16 z0 z1 z2 z3 z4 M → zz_T G 7 M bc bs 16 [(0, va_rf z0), (1, .int z1), (2, va_rf z2), (3, .int z3), (4, .int z4)] []) {v0 : Option Nat} {v1 : Int32} {v2 : Option Nat} {v3 : Int32} {v4 : Int32} {s0 : Int32} {M : zzM} {bc bs : Nat} (hw : wp_X4_score_B47 (zz_Zof G) k16 K v0 v1 v2 v3 v4 s0 M) : zz_T G 7 M bc bs 47 [(0, va_rf v0), (1, .int v1), (2, va_rf v2), (3, .int v3), (4, .int v4)] [.int s0] := by
  unfold wp_X4_score_B47 at hw
  refine zz_istore (lv' := [(5, .int s0), (0, va_rf v0), (1, .int v1), (2, va_rf v2), (3, .int v3), (4, .int v4)]) C dX4_score_47 (by decide) rfl ?_
  refine zz_iload C dX4_score_49 0 rfl ?_
  refine zz_if_eq (tgt := 66) C dX4_score_51 (by decide) hw (fun hw => ?_) (fun hw => ?_)
  · refine zz_subP [1, 2, 3, 4, 5, 0] rfl ?_
    exact ok_X4_score_B66 C E hH hR hk16 hw
  · refine zz_aload_n C dX4_score_54 rfl 1 rfl ?_
    refine zz_iload C dX4_score_55 5 rfl ?_
    obtain ⟨a9, t9, b9, fs9, hro, hL, rfl, hw⟩ := ztyS hw
    refine zz_callV (r := (zR_16, zT_16, 24)) (As := [.int v4]) (rest := []) (mc := 0) (ms := 0) C hR hro dX4_score_57 (Or.inl q2700) q2702 (Or.inl qs59) zl_DebateHallModel zk_X4_isConceded (Or.inl rfl) zy_X4_isConceded rfl (by decide) (by decide) hL (ok_X4_isConceded (zz_hl C) hw) (Nat.zero_le _) (Nat.zero_le _) (zz_cat10 _ (Nat.le_of_ble_eq_true rfl)) (fun r9 M10 hw => zz_kI hw (fun x13 hw => ?_)) (fun _ _ _ h9 => h9.elim) rfl
    refine zz_if_eq (tgt := 66) C dX4_score_60 (by decide) hw (fun hw => ?_) (fun hw => ?_)
    · refine zz_subP [1, 2, 3, 4, 5, 0] rfl ?_
      exact ok_X4_score_B66 C E hH hR hk16 hw
    · refine zz_iinc (lv' := [(3, .int (v3 + (-1))), (5, .int s0), (0, va_rf v0), (1, .int v1), (2, va_rf v2), (4, .int v4)]) C dX4_score_63 4 rfl (by rfl) (by decide) (by simp [zz_cat, zz_catI, zz_catJ, zz_catD]) ?_
      refine zz_subP [2, 3, 4, 0, 5, 1] rfl ?_
      exact ok_X4_score_B66 C E hH hR hk16 hw
theorem ok_X4_score_L16 {G : zzX} (C : zz_C G cX4_score "DebateHallModel" 7) {K : Option Value → zzM → Prop} (E : zz_E G (some .int) K (fun _ _ _ => False)) (hH : zz_H G []) (hR : zz_Rm G 2) : ∀ (n : Nat) (v0 : Option Nat) (v1 : Int32) (v2 : Option Nat) (v3 : Int32) (v4 : Int32) (M : zzM) (bc bs : Nat), wp_X4_score_L16 (zz_Zof G) K n v0 v1 v2 v3 v4 M → zz_T G 7 M bc bs 16 [(0, va_rf v0), (1, .int v1), (2, va_rf v2), (3, .int v3), (4, .int v4)] [] := by
  intro n
  induction n with
  | zero =>
    intro v0 v1 v2 v3 v4 M bc bs hw
    exact False.elim hw
  | succ n ih =>
    intro v0 v1 v2 v3 v4 M bc bs hw
    refine zz_iload C dX4_score_16 4 rfl ?_
    refine zz_aload_n C dX4_score_18 rfl 0 rfl ?_
    refine zz_getA C dX4_score_19 (Or.inl q2447) zf_16_11_ebateHallModel hw (fun x4 hw => ?_)
    refine zz_getI C dX4_score_22 (Or.inr ⟨_, q2394⟩) zf_17_3_allModel_State hw (fun x5 hw => ?_)
    refine zz_icmp_ge (tgt := 265) C dX4_score_25 (by decide) hw (fun hw => ?_) (fun hw => ?_)
    · refine zz_iload_n C dX4_score_265 rfl 3 rfl ?_
      exact zz_iret C E dX4_score_266 hw
    · refine zz_aload_n C dX4_score_28 rfl 0 rfl ?_
      refine zz_getA C dX4_score_29 (Or.inl q2447) zf_16_11_ebateHallModel hw (fun x6 hw => ?_)
      refine zz_getA C dX4_score_32 (Or.inr ⟨_, q2400⟩) zf_17_6_allModel_State hw (fun x7 hw => ?_)
      refine zz_iload C dX4_score_35 4 rfl ?_
      refine zz_iald C dX4_score_37 hw (fun x8 hw => ?_)
      refine zz_iload_n C dX4_score_38 rfl 1 rfl ?_
      refine zz_icmp_ne (tgt := 46) C dX4_score_39 (by decide) hw (fun hw => ?_) (fun hw => ?_)
      · refine zz_iconst (v := (0 : Int32)) C dX4_score_46 (by decide) ?_
        refine zz_subP [0, 1, 2, 3, 4] rfl ?_
        exact ok_X4_score_B47 C E hH hR (fun z0 z1 z2 z3 z4 z5 z6 z7 hw => ih z0 z1 z2 z3 z4 z5 z6 z7 hw) hw
      · refine zz_iconst (v := (1 : Int32)) C dX4_score_42 (by decide) ?_
        refine zz_goto (tgt := 47) C dX4_score_43 (by decide) ?_
        refine zz_subP [0, 1, 2, 3, 4] rfl ?_
        exact ok_X4_score_B47 C E hH hR (fun z0 z1 z2 z3 z4 z5 z6 z7 hw => ih z0 z1 z2 z3 z4 z5 z6 z7 hw) hw
theorem ok_X4_score {Z : zzG} {l : Launch} (hl : l.stackTraces = false) {this : Option Nat} {p0 : Int32} {p1 : Option Nat} {M : zzM} {mc ms : Nat} {K : Option Value → zzM → Prop} (hw : wp_X4_score Z this p0 p1 M K) : zz_Met Z l yX4_score (zz_ws yX4_score cX4_score 7 (some .int) none) 2 [va_rf this, .int p0, va_rf p1] M mc ms K (fun _ _ _ => False) := by
  refine zz_ofW hl (plainFor_of_name (by decide)) (by simp only [zz_sl0, zz_slI, zz_slJ, zz_slA] <;> decide) (fun G hZ hll C E hH hR hin => ?_)
  subst hZ
  subst hll
  rw [show lv_args 0 [va_rf this, .int p0, va_rf p1] = [(0, va_rf this), (1, .int p0), (2, va_rf p1)] by simp only [zz_la0, zz_laI, zz_laJ, zz_laA]]
  unfold wp_X4_score at hw
  refine zz_aload_n C dX4_score_0 rfl 0 rfl ?_
  refine zz_getA C dX4_score_1 (Or.inl q2447) zf_16_11_ebateHallModel hw (fun x1 hw => ?_)
  refine zz_getA C dX4_score_4 (Or.inr ⟨_, q2392⟩) zf_17_2_allModel_State hw (fun x2 hw => ?_)
  refine zz_iload_n C dX4_score_7 rfl 1 rfl ?_
  refine zz_iald C dX4_score_8 hw (fun x3 hw => ?_)
  refine zz_bipush (v := (60 : Int32)) C dX4_score_9 (by decide) ?_
  obtain ⟨hne, hw⟩ := hw
  refine zz_idiv C dX4_score_11 hne ?_
  refine zz_istore_n (i := 3) (lv' := [(3, .int (x3 / (60 : Int32))), (0, va_rf this), (1, .int p0), (2, va_rf p1)]) C dX4_score_12 rfl (by decide) (by simp [zz_cat, zz_catI, zz_catJ, zz_catD]) ?_
  refine zz_iconst (v := (0 : Int32)) C dX4_score_13 (by decide) ?_
  refine zz_istore (lv' := [(4, .int (0 : Int32)), (3, .int (x3 / (60 : Int32))), (0, va_rf this), (1, .int p0), (2, va_rf p1)]) C dX4_score_14 (by decide) rfl ?_
  refine zz_subP [2, 3, 4, 1, 0] rfl ?_
  obtain ⟨n16, hw⟩ := hw
  exact ok_X4_score_L16 C E hH hR n16 _ _ _ _ _ _ _ _ hw
abbrev cX4_lead : ByteArray := prog_25_method_13_code
def yX4_lead : MethodName := ⟨"DebateHallModel", "lead", "(I[I)I"⟩
def dkwX4_lead_2 : List UInt8 := [21, 5, 44, 182, 0, 130, 184, 0, 136, 54, 4, 132, 5, 1, 167, 255, 221, 29, 21, 4, 100, 172]
abbrev dktX4_lead_2 : List UInt8 := dkwX4_lead_2 ++ []
def dkwX4_lead_1 : List UInt8 := [3, 54, 5, 21, 5, 42, 180, 0, 48, 180, 0, 88, 162, 0, 29, 21, 5, 27, 159, 0, 17, 21, 4, 42]
abbrev dktX4_lead_1 : List UInt8 := dkwX4_lead_1 ++ dktX4_lead_2
def dkwX4_lead_0 : List UInt8 := [42, 27, 44, 182, 0, 130, 62, 42, 180, 0, 48, 180, 0, 88, 4, 160, 0, 5, 29, 172, 18, 135, 54, 4]
abbrev dktX4_lead_0 : List UInt8 := dkwX4_lead_0 ++ dktX4_lead_1
theorem dksX4_lead_0 : cX4_lead.data.toList.drop 0 = dktX4_lead_0 := by decide +kernel
theorem dksX4_lead_1 : cX4_lead.data.toList.drop 24 = dktX4_lead_1 := dk_seg dksX4_lead_0 24 rfl rfl
theorem dksX4_lead_2 : cX4_lead.data.toList.drop 48 = dktX4_lead_2 := dk_seg dksX4_lead_1 24 rfl rfl
theorem dX4_lead_0 : decode cX4_lead 0 = .ok (.aload_n 0, 1) := dk_42 (dk_at dksX4_lead_0 0 rfl rfl)
theorem dX4_lead_1 : decode cX4_lead 1 = .ok (.iload_n 1, 1) := dk_27 (dk_at dksX4_lead_0 1 rfl rfl)
theorem dX4_lead_2 : decode cX4_lead 2 = .ok (.aload_n 2, 1) := dk_44 (dk_at dksX4_lead_0 2 rfl rfl)
theorem dX4_lead_3 : decode cX4_lead 3 = .ok (.invokevirtual 130, 3) := dk_182 0 130 (dk_at dksX4_lead_0 3 rfl rfl)
theorem dX4_lead_6 : decode cX4_lead 6 = .ok (.istore_n 3, 1) := dk_62 (dk_at dksX4_lead_0 6 rfl rfl)
theorem dX4_lead_7 : decode cX4_lead 7 = .ok (.aload_n 0, 1) := dk_42 (dk_at dksX4_lead_0 7 rfl rfl)
theorem dX4_lead_8 : decode cX4_lead 8 = .ok (.getfield 48, 3) := dk_180 0 48 (dk_at dksX4_lead_0 8 rfl rfl)
theorem dX4_lead_11 : decode cX4_lead 11 = .ok (.getfield 88, 3) := dk_180 0 88 (dk_at dksX4_lead_0 11 rfl rfl)
theorem dX4_lead_14 : decode cX4_lead 14 = .ok (.iconst 1, 1) := dk_4 (dk_at dksX4_lead_0 14 rfl rfl)
theorem dX4_lead_15 : decode cX4_lead 15 = .ok (.if_icmp .ne 5, 3) := dk_160 0 5 (dk_at dksX4_lead_0 15 rfl rfl)
theorem dX4_lead_18 : decode cX4_lead 18 = .ok (.iload_n 3, 1) := dk_29 (dk_at dksX4_lead_0 18 rfl rfl)
theorem dX4_lead_19 : decode cX4_lead 19 = .ok (.ireturn, 1) := dk_172 (dk_at dksX4_lead_0 19 rfl rfl)
theorem dX4_lead_20 : decode cX4_lead 20 = .ok (.ldc 135, 2) := dk_18 135 (dk_at dksX4_lead_0 20 rfl rfl)
theorem dX4_lead_22 : decode cX4_lead 22 = .ok (.istore 4, 2) := dk_54 4 (dk_at dksX4_lead_0 22 rfl rfl)
theorem dX4_lead_24 : decode cX4_lead 24 = .ok (.iconst 0, 1) := dk_3 (dk_at dksX4_lead_1 0 rfl rfl)
theorem dX4_lead_25 : decode cX4_lead 25 = .ok (.istore 5, 2) := dk_54 5 (dk_at dksX4_lead_1 1 rfl rfl)
theorem dX4_lead_27 : decode cX4_lead 27 = .ok (.iload 5, 2) := dk_21 5 (dk_at dksX4_lead_1 3 rfl rfl)
theorem dX4_lead_29 : decode cX4_lead 29 = .ok (.aload_n 0, 1) := dk_42 (dk_at dksX4_lead_1 5 rfl rfl)
theorem dX4_lead_30 : decode cX4_lead 30 = .ok (.getfield 48, 3) := dk_180 0 48 (dk_at dksX4_lead_1 6 rfl rfl)
theorem dX4_lead_33 : decode cX4_lead 33 = .ok (.getfield 88, 3) := dk_180 0 88 (dk_at dksX4_lead_1 9 rfl rfl)
theorem dX4_lead_36 : decode cX4_lead 36 = .ok (.if_icmp .ge 29, 3) := dk_162 0 29 (dk_at dksX4_lead_1 12 rfl rfl)
theorem dX4_lead_39 : decode cX4_lead 39 = .ok (.iload 5, 2) := dk_21 5 (dk_at dksX4_lead_1 15 rfl rfl)
theorem dX4_lead_41 : decode cX4_lead 41 = .ok (.iload_n 1, 1) := dk_27 (dk_at dksX4_lead_1 17 rfl rfl)
theorem dX4_lead_42 : decode cX4_lead 42 = .ok (.if_icmp .eq 17, 3) := dk_159 0 17 (dk_at dksX4_lead_1 18 rfl rfl)
theorem dX4_lead_45 : decode cX4_lead 45 = .ok (.iload 4, 2) := dk_21 4 (dk_at dksX4_lead_1 21 rfl rfl)
theorem dX4_lead_47 : decode cX4_lead 47 = .ok (.aload_n 0, 1) := dk_42 (dk_at dksX4_lead_1 23 rfl rfl)
theorem dX4_lead_48 : decode cX4_lead 48 = .ok (.iload 5, 2) := dk_21 5 (dk_at dksX4_lead_2 0 rfl rfl)
theorem dX4_lead_50 : decode cX4_lead 50 = .ok (.aload_n 2, 1) := dk_44 (dk_at dksX4_lead_2 2 rfl rfl)
theorem dX4_lead_51 : decode cX4_lead 51 = .ok (.invokevirtual 130, 3) := dk_182 0 130 (dk_at dksX4_lead_2 3 rfl rfl)
theorem dX4_lead_54 : decode cX4_lead 54 = .ok (.invokestatic 136, 3) := dk_184 0 136 (dk_at dksX4_lead_2 6 rfl rfl)
theorem dX4_lead_57 : decode cX4_lead 57 = .ok (.istore 4, 2) := dk_54 4 (dk_at dksX4_lead_2 9 rfl rfl)
theorem dX4_lead_59 : decode cX4_lead 59 = .ok (.iinc 5 1, 3) := dk_132 5 1 (dk_at dksX4_lead_2 11 rfl rfl)
theorem dX4_lead_62 : decode cX4_lead 62 = .ok (.goto (-35), 3) := dk_167 255 221 (dk_at dksX4_lead_2 14 rfl rfl)
theorem dX4_lead_65 : decode cX4_lead 65 = .ok (.iload_n 3, 1) := dk_29 (dk_at dksX4_lead_2 17 rfl rfl)
theorem dX4_lead_66 : decode cX4_lead 66 = .ok (.iload 4, 2) := dk_21 4 (dk_at dksX4_lead_2 18 rfl rfl)
theorem dX4_lead_68 : decode cX4_lead 68 = .ok (.isub, 1) := dk_100 (dk_at dksX4_lead_2 20 rfl rfl)
theorem dX4_lead_69 : decode cX4_lead 69 = .ok (.ireturn, 1) := dk_172 (dk_at dksX4_lead_2 21 rfl rfl)
theorem q2747 : (Jvm.Cond.code ({ cls := "DebateHallModel", name := "score", desc := "(I[I)I" } : Jvm.MethodName) prog_25_method_12_code (7 : Nat) (Option.some Jvm.ClassFile.FieldType.int)) ∈ lw_all := lw_g (lw_at lw_m12 27 rfl) rfl
theorem zk_X4_score : zz_cd yX4_score cX4_score 7 (some .int) none ∈ lw_all := q2747
theorem zy_X4_score : zz_yok yX4_score 2 = true := by decide +kernel
theorem q2752 : (Jvm.Cond.constant "DebateHallModel" (135 : Nat) (-2147483648 : Int32)) ∈ lw_all := lw_g (lw_at lw_m12 32 rfl) rfl
theorem q2744 : (Jvm.Cond.methodLink "DebateHallModel" (130 : Nat) ({ cls := "DebateHallModel", name := "score", desc := "(I[I)I" } : Jvm.MethodName)) ∈ lw_all := lw_g (lw_at lw_m12 24 rfl) rfl
theorem q2746 : (Jvm.Cond.instanceMethod ({ cls := "DebateHallModel", name := "score", desc := "(I[I)I" } : Jvm.MethodName)) ∈ lw_all := lw_g (lw_at lw_m12 26 rfl) rfl
theorem q2753 : (Jvm.Cond.methodLink "DebateHallModel" (136 : Nat) ({ cls := "java/lang/Math", name := "max", desc := "(II)I" } : Jvm.MethodName)) ∈ lw_all := lw_g (lw_at lw_m12 33 rfl) rfl
def wp_X4_lead_B59 (Z : zzG) (k27 : Option Nat → Int32 → Option Nat → Int32 → Int32 → Int32 → zzM → Prop) (K : Option Value → zzM → Prop) (v0 : Option Nat) (v1 : Int32) (v2 : Option Nat) (v3 : Int32) (v4 : Int32) (v5 : Int32) (M : zzM) : Prop := k27 v0 v1 v2 v3 v4 (v5 + 1) M
def wp_X4_lead_L27 (Z : zzG) (K : Option Value → zzM → Prop) : Nat → Option Nat → Int32 → Option Nat → Int32 → Int32 → Int32 → zzM → Prop
  | 0, _, _, _, _, _, _, _ => False
  | n + 1, v0, v1, v2, v3, v4, v5, M => zgA Z M v0 [16] 11 fun x8 => zgI Z M x8 [17] 0 fun x9 => if x9 ≤ v5 then (K (some (.int (v3 - v4))) M) else (if v5 = v1 then (wp_X4_lead_B59 Z (wp_X4_lead_L27 Z K n) K v0 v1 v2 v3 v4 v5 M) else (zty Z M v0 fun t => t = 16 ∧ wp_X4_score Z v0 v5 v2 M (fun r10 M11 => zrI r10 fun x14 => wp_J16_max Z v4 x14 M11 (fun r15 M16 => zrI r15 fun x19 => wp_X4_lead_B59 Z (wp_X4_lead_L27 Z K n) K v0 v1 v2 v3 x19 v5 M16))))
def wp_X4_lead (Z : zzG) (this : Option Nat) (p0 : Int32) (p1 : Option Nat) (M : zzM) (K : Option Value → zzM → Prop) : Prop := zty Z M this fun t => t = 16 ∧ wp_X4_score Z this p0 p1 M (fun r1 M2 => zrI r1 fun x5 => zgA Z M2 this [16] 11 fun x6 => zgI Z M2 x6 [17] 0 fun x7 => if x7 = (1 : Int32) then (K (some (.int x5)) M2) else (∃ n27 : Nat, wp_X4_lead_L27 Z K n27 this p0 p1 x5 (-2147483648 : Int32) (0 : Int32) M2))
theorem ok_X4_lead_B59 {G : zzX} (C : zz_C G cX4_lead "DebateHallModel" 6) {K : Option Value → zzM → Prop} (E : zz_E G (some .int) K (fun _ _ _ => False)) (hH : zz_H G []) (hR : zz_Rm G 3) {k27 : Option Nat → Int32 → Option Nat → Int32 → Int32 → Int32 → zzM → Prop} (hk27 : ∀ (z0 : Option Nat) (z1 : Int32) (z2 : Option Nat) (z3 : Int32) (z4 : Int32) (z5 : Int32) (M : zzM) (bc bs : Nat), k27 z0 z1 z2 z3 z4 z5 M → zz_T G 6 M bc bs 27 [(0, va_rf z0), (1, .int z1), (2, va_rf z2), (3, .int z3), (4, .int z4), (5, .int z5)] []) {v0 : Option Nat} {v1 : Int32} {v2 : Option Nat} {v3 : Int32} {v4 : Int32} {v5 : Int32} {M : zzM} {bc bs : Nat} (hw : wp_X4_lead_B59 (zz_Zof G) k27 K v0 v1 v2 v3 v4 v5 M) : zz_T G 6 M bc bs 59 [(0, va_rf v0), (1, .int v1), (2, va_rf v2), (3, .int v3), (4, .int v4), (5, .int v5)] [] := by
  unfold wp_X4_lead_B59 at hw
  refine zz_iinc (lv' := [(5, .int (v5 + 1)), (0, va_rf v0), (1, .int v1), (2, va_rf v2), (3, .int v3), (4, .int v4)]) C dX4_lead_59 5 rfl (by rfl) (by decide) rfl ?_
  refine zz_goto (tgt := 27) C dX4_lead_62 (by decide) ?_
  refine zz_subP [1, 2, 3, 4, 5, 0] rfl ?_
  exact hk27 _ _ _ _ _ _ _ _ _ hw
theorem ok_X4_lead_L27 {G : zzX} (C : zz_C G cX4_lead "DebateHallModel" 6) {K : Option Value → zzM → Prop} (E : zz_E G (some .int) K (fun _ _ _ => False)) (hH : zz_H G []) (hR : zz_Rm G 3) : ∀ (n : Nat) (v0 : Option Nat) (v1 : Int32) (v2 : Option Nat) (v3 : Int32) (v4 : Int32) (v5 : Int32) (M : zzM) (bc bs : Nat), wp_X4_lead_L27 (zz_Zof G) K n v0 v1 v2 v3 v4 v5 M → zz_T G 6 M bc bs 27 [(0, va_rf v0), (1, .int v1), (2, va_rf v2), (3, .int v3), (4, .int v4), (5, .int v5)] [] := by
  intro n
  induction n with
  | zero =>
    intro v0 v1 v2 v3 v4 v5 M bc bs hw
    exact False.elim hw
  | succ n ih =>
    intro v0 v1 v2 v3 v4 v5 M bc bs hw
    refine zz_iload C dX4_lead_27 5 rfl ?_
    refine zz_aload_n C dX4_lead_29 rfl 0 rfl ?_
    refine zz_getA C dX4_lead_30 (Or.inl q2447) zf_16_11_ebateHallModel hw (fun x8 hw => ?_)
    refine zz_getI C dX4_lead_33 (Or.inr ⟨_, q2388⟩) zf_17_0_allModel_State hw (fun x9 hw => ?_)
    refine zz_icmp_ge (tgt := 65) C dX4_lead_36 (by decide) hw (fun hw => ?_) (fun hw => ?_)
    · refine zz_iload_n C dX4_lead_65 rfl 3 rfl ?_
      refine zz_iload C dX4_lead_66 4 rfl ?_
      refine zz_isub C dX4_lead_68 ?_
      exact zz_iret C E dX4_lead_69 hw
    · refine zz_iload C dX4_lead_39 5 rfl ?_
      refine zz_iload_n C dX4_lead_41 rfl 1 rfl ?_
      refine zz_icmp_eq (tgt := 59) C dX4_lead_42 (by decide) hw (fun hw => ?_) (fun hw => ?_)
      · refine zz_subP [0, 1, 2, 3, 4, 5] rfl ?_
        exact ok_X4_lead_B59 C E hH hR (fun z0 z1 z2 z3 z4 z5 z6 z7 z8 hw => ih z0 z1 z2 z3 z4 z5 z6 z7 z8 hw) hw
      · refine zz_iload C dX4_lead_45 4 rfl ?_
        refine zz_aload_n C dX4_lead_47 rfl 0 rfl ?_
        refine zz_iload C dX4_lead_48 5 rfl ?_
        refine zz_aload_n C dX4_lead_50 rfl 2 rfl ?_
        obtain ⟨a9, t9, b9, fs9, hro, hL, rfl, hw⟩ := ztyS hw
        refine zz_callV (r := (zR_16, zT_16, 24)) (As := [.int v5, va_rf v2]) (rest := [.int v4]) (mc := 0) (ms := 0) C hR hro dX4_lead_51 (Or.inl q2744) q2746 (Or.inl qs67) zl_DebateHallModel zk_X4_score (Or.inl rfl) zy_X4_score rfl (by decide) (by decide) hL (ok_X4_score (zz_hl C) hw) (Nat.zero_le _) (Nat.zero_le _) (zz_cat10 _ (Nat.le_of_ble_eq_true rfl)) (fun r10 M11 hw => zz_kI hw (fun x14 hw => ?_)) (fun _ _ _ h9 => h9.elim) rfl
        refine zz_callS (As := [.int v4, .int x14]) (rest := []) (mc := 0) (ms := 0) C hR dX4_lead_54 (Or.inl q2753) q419 zl_java_lang_Math zk_J16_max (Or.inl rfl) zy_J16_max (by decide) (by decide) (ok_J16_max (zz_hl C) hw) (Nat.zero_le _) (Nat.zero_le _) (zz_cat10 _ (Nat.le_of_ble_eq_true rfl)) (fun r15 M16 hw => zz_kI hw (fun x19 hw => ?_)) (fun _ _ _ h9 => h9.elim) rfl
        refine zz_istore (lv' := [(4, .int x19), (0, va_rf v0), (1, .int v1), (2, va_rf v2), (3, .int v3), (5, .int v5)]) C dX4_lead_57 (by decide) rfl ?_
        refine zz_subP [1, 2, 3, 4, 0, 5] rfl ?_
        exact ok_X4_lead_B59 C E hH hR (fun z0 z1 z2 z3 z4 z5 z6 z7 z8 hw => ih z0 z1 z2 z3 z4 z5 z6 z7 z8 hw) hw
theorem ok_X4_lead {Z : zzG} {l : Launch} (hl : l.stackTraces = false) {this : Option Nat} {p0 : Int32} {p1 : Option Nat} {M : zzM} {mc ms : Nat} {K : Option Value → zzM → Prop} (hw : wp_X4_lead Z this p0 p1 M K) : zz_Met Z l yX4_lead (zz_ws yX4_lead cX4_lead 6 (some .int) none) 3 [va_rf this, .int p0, va_rf p1] M mc ms K (fun _ _ _ => False) := by
  refine zz_ofW hl (plainFor_of_name (by decide)) (by simp only [zz_sl0, zz_slI, zz_slJ, zz_slA] <;> decide) (fun G hZ hll C E hH hR hin => ?_)
  subst hZ
  subst hll
  rw [show lv_args 0 [va_rf this, .int p0, va_rf p1] = [(0, va_rf this), (1, .int p0), (2, va_rf p1)] by simp only [zz_la0, zz_laI, zz_laJ, zz_laA]]
  unfold wp_X4_lead at hw
  refine zz_aload_n C dX4_lead_0 rfl 0 rfl ?_
  refine zz_iload_n C dX4_lead_1 rfl 1 rfl ?_
  refine zz_aload_n C dX4_lead_2 rfl 2 rfl ?_
  obtain ⟨a9, t9, b9, fs9, hro, hL, rfl, hw⟩ := ztyS hw
  refine zz_callV (r := (zR_16, zT_16, 24)) (As := [.int p0, va_rf p1]) (rest := []) (mc := 0) (ms := 0) C hR hro dX4_lead_3 (Or.inl q2744) q2746 (Or.inl qs67) zl_DebateHallModel zk_X4_score (Or.inl rfl) zy_X4_score rfl (by decide) (by decide) hL (ok_X4_score (zz_hl C) hw) (Nat.zero_le _) (Nat.zero_le _) (zz_cat10 _ (Nat.le_of_ble_eq_true rfl)) (fun r1 M2 hw => zz_kI hw (fun x5 hw => ?_)) (fun _ _ _ h9 => h9.elim) rfl
  refine zz_istore_n (i := 3) (lv' := [(3, .int x5), (0, va_rf this), (1, .int p0), (2, va_rf p1)]) C dX4_lead_6 rfl (by decide) (by simp [zz_cat, zz_catI, zz_catJ, zz_catD]) ?_
  refine zz_aload_n C dX4_lead_7 rfl 1 rfl ?_
  refine zz_getA C dX4_lead_8 (Or.inl q2447) zf_16_11_ebateHallModel hw (fun x6 hw => ?_)
  refine zz_getI C dX4_lead_11 (Or.inr ⟨_, q2388⟩) zf_17_0_allModel_State hw (fun x7 hw => ?_)
  refine zz_iconst (v := (1 : Int32)) C dX4_lead_14 (by decide) ?_
  refine zz_icmp_ne (tgt := 20) C dX4_lead_15 (by decide) hw (fun hw => ?_) (fun hw => ?_)
  · refine zz_ldci C dX4_lead_20 q2752 ?_
    refine zz_istore (lv' := [(4, .int (-2147483648 : Int32)), (3, .int x5), (0, va_rf this), (1, .int p0), (2, va_rf p1)]) C dX4_lead_22 (by decide) rfl ?_
    refine zz_iconst (v := (0 : Int32)) C dX4_lead_24 (by decide) ?_
    refine zz_istore (lv' := [(5, .int (0 : Int32)), (4, .int (-2147483648 : Int32)), (3, .int x5), (0, va_rf this), (1, .int p0), (2, va_rf p1)]) C dX4_lead_25 (by decide) rfl ?_
    refine zz_subP [3, 4, 5, 2, 1, 0] rfl ?_
    obtain ⟨n27, hw⟩ := hw
    exact ok_X4_lead_L27 C E hH hR n27 _ _ _ _ _ _ _ _ _ hw
  · refine zz_iload_n C dX4_lead_18 rfl 0 rfl ?_
    exact zz_iret C E dX4_lead_19 hw
abbrev cX4_speakerTold : ByteArray := prog_25_method_49_code
def yX4_speakerTold : MethodName := ⟨"DebateHallModel", "speakerTold", "(II)I"⟩
def dkwX4_speakerTold_6 : List UInt8 := [25, 5, 28, 46, 172]
abbrev dktX4_speakerTold_6 : List UInt8 := dkwX4_speakerTold_6 ++ []
def dkwX4_speakerTold_5 : List UInt8 := [45, 3, 46, 79, 89, 7, 45, 4, 46, 79, 89, 8, 45, 5, 46, 79, 89, 16, 6, 21, 4, 79, 58, 5]
abbrev dktX4_speakerTold_5 : List UInt8 := dkwX4_speakerTold_5 ++ dktX4_speakerTold_6
def dkwX4_speakerTold_4 : List UInt8 := [42, 27, 42, 180, 0, 55, 182, 0, 130, 79, 89, 5, 42, 27, 42, 180, 0, 55, 182, 1, 81, 79, 89, 6]
abbrev dktX4_speakerTold_4 : List UInt8 := dkwX4_speakerTold_4 ++ dktX4_speakerTold_5
def dkwX4_speakerTold_3 : List UInt8 := [132, 5, 1, 167, 255, 193, 16, 7, 188, 10, 89, 3, 42, 180, 0, 48, 180, 0, 118, 27, 46, 79, 89, 4]
abbrev dktX4_speakerTold_3 : List UInt8 := dkwX4_speakerTold_3 ++ dktX4_speakerTold_4
def dkwX4_speakerTold_2 : List UInt8 := [21, 5, 46, 92, 46, 4, 96, 79, 21, 4, 42, 180, 0, 48, 180, 0, 98, 21, 5, 46, 96, 54, 4]
abbrev dktX4_speakerTold_2 : List UInt8 := dkwX4_speakerTold_2 ++ dktX4_speakerTold_3
def dkwX4_speakerTold_1 : List UInt8 := [180, 0, 48, 180, 0, 121, 21, 5, 46, 27, 159, 0, 6, 167, 0, 34, 45, 42, 180, 0, 48, 180, 0, 124]
abbrev dktX4_speakerTold_1 : List UInt8 := dkwX4_speakerTold_1 ++ dktX4_speakerTold_2
def dkwX4_speakerTold_0 : List UInt8 := [6, 188, 10, 78, 3, 54, 4, 3, 54, 5, 21, 5, 42, 180, 0, 48, 180, 0, 95, 162, 0, 57, 42]
abbrev dktX4_speakerTold_0 : List UInt8 := dkwX4_speakerTold_0 ++ dktX4_speakerTold_1
theorem dksX4_speakerTold_0 : cX4_speakerTold.data.toList.drop 0 = dktX4_speakerTold_0 := by decide +kernel
theorem dksX4_speakerTold_1 : cX4_speakerTold.data.toList.drop 23 = dktX4_speakerTold_1 := dk_seg dksX4_speakerTold_0 23 rfl rfl
theorem dksX4_speakerTold_2 : cX4_speakerTold.data.toList.drop 47 = dktX4_speakerTold_2 := dk_seg dksX4_speakerTold_1 24 rfl rfl
theorem dksX4_speakerTold_3 : cX4_speakerTold.data.toList.drop 70 = dktX4_speakerTold_3 := dk_seg dksX4_speakerTold_2 23 rfl rfl
theorem dksX4_speakerTold_4 : cX4_speakerTold.data.toList.drop 94 = dktX4_speakerTold_4 := dk_seg dksX4_speakerTold_3 24 rfl rfl
theorem dksX4_speakerTold_5 : cX4_speakerTold.data.toList.drop 118 = dktX4_speakerTold_5 := dk_seg dksX4_speakerTold_4 24 rfl rfl
theorem dksX4_speakerTold_6 : cX4_speakerTold.data.toList.drop 142 = dktX4_speakerTold_6 := dk_seg dksX4_speakerTold_5 24 rfl rfl
theorem dX4_speakerTold_0 : decode cX4_speakerTold 0 = .ok (.iconst 3, 1) := dk_6 (dk_at dksX4_speakerTold_0 0 rfl rfl)
theorem dX4_speakerTold_1 : decode cX4_speakerTold 1 = .ok (.newarray .int, 2) := dk_188_10 (dk_at dksX4_speakerTold_0 1 rfl rfl)
theorem dX4_speakerTold_3 : decode cX4_speakerTold 3 = .ok (.astore_n 3, 1) := dk_78 (dk_at dksX4_speakerTold_0 3 rfl rfl)
theorem dX4_speakerTold_4 : decode cX4_speakerTold 4 = .ok (.iconst 0, 1) := dk_3 (dk_at dksX4_speakerTold_0 4 rfl rfl)
theorem dX4_speakerTold_5 : decode cX4_speakerTold 5 = .ok (.istore 4, 2) := dk_54 4 (dk_at dksX4_speakerTold_0 5 rfl rfl)
theorem dX4_speakerTold_7 : decode cX4_speakerTold 7 = .ok (.iconst 0, 1) := dk_3 (dk_at dksX4_speakerTold_0 7 rfl rfl)
theorem dX4_speakerTold_8 : decode cX4_speakerTold 8 = .ok (.istore 5, 2) := dk_54 5 (dk_at dksX4_speakerTold_0 8 rfl rfl)
theorem dX4_speakerTold_10 : decode cX4_speakerTold 10 = .ok (.iload 5, 2) := dk_21 5 (dk_at dksX4_speakerTold_0 10 rfl rfl)
theorem dX4_speakerTold_12 : decode cX4_speakerTold 12 = .ok (.aload_n 0, 1) := dk_42 (dk_at dksX4_speakerTold_0 12 rfl rfl)
theorem dX4_speakerTold_13 : decode cX4_speakerTold 13 = .ok (.getfield 48, 3) := dk_180 0 48 (dk_at dksX4_speakerTold_0 13 rfl rfl)
theorem dX4_speakerTold_16 : decode cX4_speakerTold 16 = .ok (.getfield 95, 3) := dk_180 0 95 (dk_at dksX4_speakerTold_0 16 rfl rfl)
theorem dX4_speakerTold_19 : decode cX4_speakerTold 19 = .ok (.if_icmp .ge 57, 3) := dk_162 0 57 (dk_at dksX4_speakerTold_0 19 rfl rfl)
theorem dX4_speakerTold_22 : decode cX4_speakerTold 22 = .ok (.aload_n 0, 1) := dk_42 (dk_at dksX4_speakerTold_0 22 rfl rfl)
theorem dX4_speakerTold_23 : decode cX4_speakerTold 23 = .ok (.getfield 48, 3) := dk_180 0 48 (dk_at dksX4_speakerTold_1 0 rfl rfl)
theorem dX4_speakerTold_26 : decode cX4_speakerTold 26 = .ok (.getfield 121, 3) := dk_180 0 121 (dk_at dksX4_speakerTold_1 3 rfl rfl)
theorem dX4_speakerTold_29 : decode cX4_speakerTold 29 = .ok (.iload 5, 2) := dk_21 5 (dk_at dksX4_speakerTold_1 6 rfl rfl)
theorem dX4_speakerTold_31 : decode cX4_speakerTold 31 = .ok (.iaload, 1) := dk_46 (dk_at dksX4_speakerTold_1 8 rfl rfl)
theorem dX4_speakerTold_32 : decode cX4_speakerTold 32 = .ok (.iload_n 1, 1) := dk_27 (dk_at dksX4_speakerTold_1 9 rfl rfl)
theorem dX4_speakerTold_33 : decode cX4_speakerTold 33 = .ok (.if_icmp .eq 6, 3) := dk_159 0 6 (dk_at dksX4_speakerTold_1 10 rfl rfl)
theorem dX4_speakerTold_36 : decode cX4_speakerTold 36 = .ok (.goto 34, 3) := dk_167 0 34 (dk_at dksX4_speakerTold_1 13 rfl rfl)
theorem dX4_speakerTold_39 : decode cX4_speakerTold 39 = .ok (.aload_n 3, 1) := dk_45 (dk_at dksX4_speakerTold_1 16 rfl rfl)
theorem dX4_speakerTold_40 : decode cX4_speakerTold 40 = .ok (.aload_n 0, 1) := dk_42 (dk_at dksX4_speakerTold_1 17 rfl rfl)
theorem dX4_speakerTold_41 : decode cX4_speakerTold 41 = .ok (.getfield 48, 3) := dk_180 0 48 (dk_at dksX4_speakerTold_1 18 rfl rfl)
theorem dX4_speakerTold_44 : decode cX4_speakerTold 44 = .ok (.getfield 124, 3) := dk_180 0 124 (dk_at dksX4_speakerTold_1 21 rfl rfl)
theorem dX4_speakerTold_47 : decode cX4_speakerTold 47 = .ok (.iload 5, 2) := dk_21 5 (dk_at dksX4_speakerTold_2 0 rfl rfl)
theorem dX4_speakerTold_49 : decode cX4_speakerTold 49 = .ok (.iaload, 1) := dk_46 (dk_at dksX4_speakerTold_2 2 rfl rfl)
theorem dX4_speakerTold_50 : decode cX4_speakerTold 50 = .ok (.dup2, 1) := dk_92 (dk_at dksX4_speakerTold_2 3 rfl rfl)
theorem dX4_speakerTold_51 : decode cX4_speakerTold 51 = .ok (.iaload, 1) := dk_46 (dk_at dksX4_speakerTold_2 4 rfl rfl)
theorem dX4_speakerTold_52 : decode cX4_speakerTold 52 = .ok (.iconst 1, 1) := dk_4 (dk_at dksX4_speakerTold_2 5 rfl rfl)
theorem dX4_speakerTold_53 : decode cX4_speakerTold 53 = .ok (.iadd, 1) := dk_96 (dk_at dksX4_speakerTold_2 6 rfl rfl)
theorem dX4_speakerTold_54 : decode cX4_speakerTold 54 = .ok (.iastore, 1) := dk_79 (dk_at dksX4_speakerTold_2 7 rfl rfl)
theorem dX4_speakerTold_55 : decode cX4_speakerTold 55 = .ok (.iload 4, 2) := dk_21 4 (dk_at dksX4_speakerTold_2 8 rfl rfl)
theorem dX4_speakerTold_57 : decode cX4_speakerTold 57 = .ok (.aload_n 0, 1) := dk_42 (dk_at dksX4_speakerTold_2 10 rfl rfl)
theorem dX4_speakerTold_58 : decode cX4_speakerTold 58 = .ok (.getfield 48, 3) := dk_180 0 48 (dk_at dksX4_speakerTold_2 11 rfl rfl)
theorem dX4_speakerTold_61 : decode cX4_speakerTold 61 = .ok (.getfield 98, 3) := dk_180 0 98 (dk_at dksX4_speakerTold_2 14 rfl rfl)
theorem dX4_speakerTold_64 : decode cX4_speakerTold 64 = .ok (.iload 5, 2) := dk_21 5 (dk_at dksX4_speakerTold_2 17 rfl rfl)
theorem dX4_speakerTold_66 : decode cX4_speakerTold 66 = .ok (.iaload, 1) := dk_46 (dk_at dksX4_speakerTold_2 19 rfl rfl)
theorem dX4_speakerTold_67 : decode cX4_speakerTold 67 = .ok (.iadd, 1) := dk_96 (dk_at dksX4_speakerTold_2 20 rfl rfl)
theorem dX4_speakerTold_68 : decode cX4_speakerTold 68 = .ok (.istore 4, 2) := dk_54 4 (dk_at dksX4_speakerTold_2 21 rfl rfl)
theorem dX4_speakerTold_70 : decode cX4_speakerTold 70 = .ok (.iinc 5 1, 3) := dk_132 5 1 (dk_at dksX4_speakerTold_3 0 rfl rfl)
theorem dX4_speakerTold_73 : decode cX4_speakerTold 73 = .ok (.goto (-63), 3) := dk_167 255 193 (dk_at dksX4_speakerTold_3 3 rfl rfl)
theorem dX4_speakerTold_76 : decode cX4_speakerTold 76 = .ok (.bipush 7, 2) := dk_16 7 (dk_at dksX4_speakerTold_3 6 rfl rfl)
theorem dX4_speakerTold_78 : decode cX4_speakerTold 78 = .ok (.newarray .int, 2) := dk_188_10 (dk_at dksX4_speakerTold_3 8 rfl rfl)
theorem dX4_speakerTold_80 : decode cX4_speakerTold 80 = .ok (.dup, 1) := dk_89 (dk_at dksX4_speakerTold_3 10 rfl rfl)
theorem dX4_speakerTold_81 : decode cX4_speakerTold 81 = .ok (.iconst 0, 1) := dk_3 (dk_at dksX4_speakerTold_3 11 rfl rfl)
theorem dX4_speakerTold_82 : decode cX4_speakerTold 82 = .ok (.aload_n 0, 1) := dk_42 (dk_at dksX4_speakerTold_3 12 rfl rfl)
theorem dX4_speakerTold_83 : decode cX4_speakerTold 83 = .ok (.getfield 48, 3) := dk_180 0 48 (dk_at dksX4_speakerTold_3 13 rfl rfl)
theorem dX4_speakerTold_86 : decode cX4_speakerTold 86 = .ok (.getfield 118, 3) := dk_180 0 118 (dk_at dksX4_speakerTold_3 16 rfl rfl)
theorem dX4_speakerTold_89 : decode cX4_speakerTold 89 = .ok (.iload_n 1, 1) := dk_27 (dk_at dksX4_speakerTold_3 19 rfl rfl)
theorem dX4_speakerTold_90 : decode cX4_speakerTold 90 = .ok (.iaload, 1) := dk_46 (dk_at dksX4_speakerTold_3 20 rfl rfl)
theorem dX4_speakerTold_91 : decode cX4_speakerTold 91 = .ok (.iastore, 1) := dk_79 (dk_at dksX4_speakerTold_3 21 rfl rfl)
theorem dX4_speakerTold_92 : decode cX4_speakerTold 92 = .ok (.dup, 1) := dk_89 (dk_at dksX4_speakerTold_3 22 rfl rfl)
theorem dX4_speakerTold_93 : decode cX4_speakerTold 93 = .ok (.iconst 1, 1) := dk_4 (dk_at dksX4_speakerTold_3 23 rfl rfl)
theorem dX4_speakerTold_94 : decode cX4_speakerTold 94 = .ok (.aload_n 0, 1) := dk_42 (dk_at dksX4_speakerTold_4 0 rfl rfl)
theorem dX4_speakerTold_95 : decode cX4_speakerTold 95 = .ok (.iload_n 1, 1) := dk_27 (dk_at dksX4_speakerTold_4 1 rfl rfl)
theorem dX4_speakerTold_96 : decode cX4_speakerTold 96 = .ok (.aload_n 0, 1) := dk_42 (dk_at dksX4_speakerTold_4 2 rfl rfl)
theorem dX4_speakerTold_97 : decode cX4_speakerTold 97 = .ok (.getfield 55, 3) := dk_180 0 55 (dk_at dksX4_speakerTold_4 3 rfl rfl)
theorem dX4_speakerTold_100 : decode cX4_speakerTold 100 = .ok (.invokevirtual 130, 3) := dk_182 0 130 (dk_at dksX4_speakerTold_4 6 rfl rfl)
theorem dX4_speakerTold_103 : decode cX4_speakerTold 103 = .ok (.iastore, 1) := dk_79 (dk_at dksX4_speakerTold_4 9 rfl rfl)
theorem dX4_speakerTold_104 : decode cX4_speakerTold 104 = .ok (.dup, 1) := dk_89 (dk_at dksX4_speakerTold_4 10 rfl rfl)
theorem dX4_speakerTold_105 : decode cX4_speakerTold 105 = .ok (.iconst 2, 1) := dk_5 (dk_at dksX4_speakerTold_4 11 rfl rfl)
theorem dX4_speakerTold_106 : decode cX4_speakerTold 106 = .ok (.aload_n 0, 1) := dk_42 (dk_at dksX4_speakerTold_4 12 rfl rfl)
theorem dX4_speakerTold_107 : decode cX4_speakerTold 107 = .ok (.iload_n 1, 1) := dk_27 (dk_at dksX4_speakerTold_4 13 rfl rfl)
theorem dX4_speakerTold_108 : decode cX4_speakerTold 108 = .ok (.aload_n 0, 1) := dk_42 (dk_at dksX4_speakerTold_4 14 rfl rfl)
theorem dX4_speakerTold_109 : decode cX4_speakerTold 109 = .ok (.getfield 55, 3) := dk_180 0 55 (dk_at dksX4_speakerTold_4 15 rfl rfl)
theorem dX4_speakerTold_112 : decode cX4_speakerTold 112 = .ok (.invokevirtual 337, 3) := dk_182 1 81 (dk_at dksX4_speakerTold_4 18 rfl rfl)
theorem dX4_speakerTold_115 : decode cX4_speakerTold 115 = .ok (.iastore, 1) := dk_79 (dk_at dksX4_speakerTold_4 21 rfl rfl)
theorem dX4_speakerTold_116 : decode cX4_speakerTold 116 = .ok (.dup, 1) := dk_89 (dk_at dksX4_speakerTold_4 22 rfl rfl)
theorem dX4_speakerTold_117 : decode cX4_speakerTold 117 = .ok (.iconst 3, 1) := dk_6 (dk_at dksX4_speakerTold_4 23 rfl rfl)
theorem dX4_speakerTold_118 : decode cX4_speakerTold 118 = .ok (.aload_n 3, 1) := dk_45 (dk_at dksX4_speakerTold_5 0 rfl rfl)
theorem dX4_speakerTold_119 : decode cX4_speakerTold 119 = .ok (.iconst 0, 1) := dk_3 (dk_at dksX4_speakerTold_5 1 rfl rfl)
theorem dX4_speakerTold_120 : decode cX4_speakerTold 120 = .ok (.iaload, 1) := dk_46 (dk_at dksX4_speakerTold_5 2 rfl rfl)
theorem dX4_speakerTold_121 : decode cX4_speakerTold 121 = .ok (.iastore, 1) := dk_79 (dk_at dksX4_speakerTold_5 3 rfl rfl)
theorem dX4_speakerTold_122 : decode cX4_speakerTold 122 = .ok (.dup, 1) := dk_89 (dk_at dksX4_speakerTold_5 4 rfl rfl)
theorem dX4_speakerTold_123 : decode cX4_speakerTold 123 = .ok (.iconst 4, 1) := dk_7 (dk_at dksX4_speakerTold_5 5 rfl rfl)
theorem dX4_speakerTold_124 : decode cX4_speakerTold 124 = .ok (.aload_n 3, 1) := dk_45 (dk_at dksX4_speakerTold_5 6 rfl rfl)
theorem dX4_speakerTold_125 : decode cX4_speakerTold 125 = .ok (.iconst 1, 1) := dk_4 (dk_at dksX4_speakerTold_5 7 rfl rfl)
theorem dX4_speakerTold_126 : decode cX4_speakerTold 126 = .ok (.iaload, 1) := dk_46 (dk_at dksX4_speakerTold_5 8 rfl rfl)
theorem dX4_speakerTold_127 : decode cX4_speakerTold 127 = .ok (.iastore, 1) := dk_79 (dk_at dksX4_speakerTold_5 9 rfl rfl)
theorem dX4_speakerTold_128 : decode cX4_speakerTold 128 = .ok (.dup, 1) := dk_89 (dk_at dksX4_speakerTold_5 10 rfl rfl)
theorem dX4_speakerTold_129 : decode cX4_speakerTold 129 = .ok (.iconst 5, 1) := dk_8 (dk_at dksX4_speakerTold_5 11 rfl rfl)
theorem dX4_speakerTold_130 : decode cX4_speakerTold 130 = .ok (.aload_n 3, 1) := dk_45 (dk_at dksX4_speakerTold_5 12 rfl rfl)
theorem dX4_speakerTold_131 : decode cX4_speakerTold 131 = .ok (.iconst 2, 1) := dk_5 (dk_at dksX4_speakerTold_5 13 rfl rfl)
theorem dX4_speakerTold_132 : decode cX4_speakerTold 132 = .ok (.iaload, 1) := dk_46 (dk_at dksX4_speakerTold_5 14 rfl rfl)
theorem dX4_speakerTold_133 : decode cX4_speakerTold 133 = .ok (.iastore, 1) := dk_79 (dk_at dksX4_speakerTold_5 15 rfl rfl)
theorem dX4_speakerTold_134 : decode cX4_speakerTold 134 = .ok (.dup, 1) := dk_89 (dk_at dksX4_speakerTold_5 16 rfl rfl)
theorem dX4_speakerTold_135 : decode cX4_speakerTold 135 = .ok (.bipush 6, 2) := dk_16 6 (dk_at dksX4_speakerTold_5 17 rfl rfl)
theorem dX4_speakerTold_137 : decode cX4_speakerTold 137 = .ok (.iload 4, 2) := dk_21 4 (dk_at dksX4_speakerTold_5 19 rfl rfl)
theorem dX4_speakerTold_139 : decode cX4_speakerTold 139 = .ok (.iastore, 1) := dk_79 (dk_at dksX4_speakerTold_5 21 rfl rfl)
theorem dX4_speakerTold_140 : decode cX4_speakerTold 140 = .ok (.astore 5, 2) := dk_58 5 (dk_at dksX4_speakerTold_5 22 rfl rfl)
theorem dX4_speakerTold_142 : decode cX4_speakerTold 142 = .ok (.aload 5, 2) := dk_25 5 (dk_at dksX4_speakerTold_6 0 rfl rfl)
theorem dX4_speakerTold_144 : decode cX4_speakerTold 144 = .ok (.iload_n 2, 1) := dk_28 (dk_at dksX4_speakerTold_6 2 rfl rfl)
theorem dX4_speakerTold_145 : decode cX4_speakerTold 145 = .ok (.iaload, 1) := dk_46 (dk_at dksX4_speakerTold_6 3 rfl rfl)
theorem dX4_speakerTold_146 : decode cX4_speakerTold 146 = .ok (.ireturn, 1) := dk_172 (dk_at dksX4_speakerTold_6 4 rfl rfl)
theorem q2751 : (Jvm.Cond.code ({ cls := "DebateHallModel", name := "lead", desc := "(I[I)I" } : Jvm.MethodName) prog_25_method_13_code (6 : Nat) (Option.some Jvm.ClassFile.FieldType.int)) ∈ lw_all := lw_g (lw_at lw_m12 31 rfl) rfl
theorem zk_X4_lead : zz_cd yX4_lead cX4_lead 6 (some .int) none ∈ lw_all := q2751
theorem zy_X4_lead : zz_yok yX4_lead 2 = true := by decide +kernel
theorem q2748 : (Jvm.Cond.methodLink "DebateHallModel" (337 : Nat) ({ cls := "DebateHallModel", name := "lead", desc := "(I[I)I" } : Jvm.MethodName)) ∈ lw_all := lw_g (lw_at lw_m12 28 rfl) rfl
theorem q2750 : (Jvm.Cond.instanceMethod ({ cls := "DebateHallModel", name := "lead", desc := "(I[I)I" } : Jvm.MethodName)) ∈ lw_all := lw_g (lw_at lw_m12 30 rfl) rfl
def wp_X4_speakerTold_B70 (Z : zzG) (k10 : Option Nat → Int32 → Int32 → Option Nat → Int32 → Int32 → zzM → Nat → Nat → Prop) (K : Option Value → zzM → Prop) (v0 : Option Nat) (v1 : Int32) (v2 : Int32) (v3 : Option Nat) (v4 : Int32) (v5 : Int32) (M : zzM) (bc bs : Nat) : Prop := k10 v0 v1 v2 v3 v4 (v5 + 1) M bc bs
def wp_X4_speakerTold_L10 (Z : zzG) (K : Option Value → zzM → Prop) : Nat → Option Nat → Int32 → Int32 → Option Nat → Int32 → Int32 → zzM → Nat → Nat → Prop
  | 0, _, _, _, _, _, _, _, _, _ => False
  | n + 1, v0, v1, v2, v3, v4, v5, M, bc, bs => zgA Z M v0 [16] 11 fun x5 => zgI Z M x5 [17] 3 fun x6 => if x6 ≤ v5 then (znar Z M bc bs 100 (7 : Int32) (.int 0) fun q7 M8 bc9 bs10 => zgA Z M8 v0 [16] 11 fun x11 => zgA Z M8 x11 [17] 2 fun x12 => zaI Z M8 x12 [100] v1 fun x13 => zast Z M8 (some q7) [100] (0 : Int32) (.int x13) fun M14 => zgA Z M14 v0 [16] 13 fun x15 => zty Z M14 v0 fun t => t = 16 ∧ wp_X4_score Z v0 v1 x15 M14 (fun r16 M17 => zrI r16 fun x20 => zast Z M17 (some q7) [100] (1 : Int32) (.int x20) fun M21 => zgA Z M21 v0 [16] 13 fun x22 => zty Z M21 v0 fun t => t = 16 ∧ wp_X4_lead Z v0 v1 x22 M21 (fun r23 M24 => zrI r23 fun x27 => zast Z M24 (some q7) [100] (2 : Int32) (.int x27) fun M28 => zaI Z M28 v3 [100] (0 : Int32) fun x29 => zast Z M28 (some q7) [100] (3 : Int32) (.int x29) fun M30 => zaI Z M30 v3 [100] (1 : Int32) fun x31 => zast Z M30 (some q7) [100] (4 : Int32) (.int x31) fun M32 => zaI Z M32 v3 [100] (2 : Int32) fun x33 => zast Z M32 (some q7) [100] (5 : Int32) (.int x33) fun M34 => zast Z M34 (some q7) [100] (6 : Int32) (.int v4) fun M35 => zaI Z M35 (some q7) [100] v2 fun x36 => K (some (.int x36)) M35))) else (zgA Z M v0 [16] 11 fun x37 => zgA Z M x37 [17] 6 fun x38 => zaI Z M x38 [100] v5 fun x39 => if x39 = v1 then (zgA Z M v0 [16] 11 fun x40 => zgA Z M x40 [17] 5 fun x41 => zaI Z M x41 [100] v5 fun x42 => zaI Z M v3 [100] x42 fun x43 => zast Z M v3 [100] x42 (.int (x43 + (1 : Int32))) fun M44 => zgA Z M44 v0 [16] 11 fun x45 => zgA Z M44 x45 [17] 10 fun x46 => zaI Z M44 x46 [100] v5 fun x47 => wp_X4_speakerTold_B70 Z (wp_X4_speakerTold_L10 Z K n) K v0 v1 v2 v3 (v4 + x47) v5 M44 bc bs) else (wp_X4_speakerTold_B70 Z (wp_X4_speakerTold_L10 Z K n) K v0 v1 v2 v3 v4 v5 M bc bs))
def wp_X4_speakerTold (Z : zzG) (this : Option Nat) (p0 : Int32) (p1 : Int32) (M : zzM) (bc bs : Nat) (K : Option Value → zzM → Prop) : Prop := znar Z M bc bs 100 (3 : Int32) (.int 0) fun q1 M2 bc3 bs4 => ∃ n10 : Nat, wp_X4_speakerTold_L10 Z K n10 this p0 p1 (some q1) (0 : Int32) (0 : Int32) M2 bc3 bs4
theorem ok_X4_speakerTold_B70 {G : zzX} (C : zz_C G cX4_speakerTold "DebateHallModel" 6) {K : Option Value → zzM → Prop} (E : zz_E G (some .int) K (fun _ _ _ => False)) (hH : zz_H G []) (hR : zz_Rm G 4) {k10 : Option Nat → Int32 → Int32 → Option Nat → Int32 → Int32 → zzM → Nat → Nat → Prop} (hk10 : ∀ (z0 : Option Nat) (z1 : Int32) (z2 : Int32) (z3 : Option Nat) (z4 : Int32) (z5 : Int32) (M : zzM) (bc bs : Nat), k10 z0 z1 z2 z3 z4 z5 M bc bs → zz_T G 6 M bc bs 10 [(0, va_rf z0), (1, .int z1), (2, .int z2), (3, va_rf z3), (4, .int z4), (5, .int z5)] []) {v0 : Option Nat} {v1 : Int32} {v2 : Int32} {v3 : Option Nat} {v4 : Int32} {v5 : Int32} {M : zzM} {bc bs : Nat} (hw : wp_X4_speakerTold_B70 (zz_Zof G) k10 K v0 v1 v2 v3 v4 v5 M bc bs) : zz_T G 6 M bc bs 70 [(0, va_rf v0), (1, .int v1), (2, .int v2), (3, va_rf v3), (4, .int v4), (5, .int v5)] [] := by
  unfold wp_X4_speakerTold_B70 at hw
  refine zz_iinc (lv' := [(5, .int (v5 + 1)), (0, va_rf v0), (1, .int v1), (2, .int v2), (3, va_rf v3), (4, .int v4)]) C dX4_speakerTold_70 5 rfl (by rfl) (by decide) rfl ?_
  refine zz_goto (tgt := 10) C dX4_speakerTold_73 (by decide) ?_
  refine zz_subP [1, 2, 3, 4, 5, 0] rfl ?_
  exact hk10 _ _ _ _ _ _ _ _ _ hw
theorem ok_X4_speakerTold_L10 {G : zzX} (C : zz_C G cX4_speakerTold "DebateHallModel" 6) {K : Option Value → zzM → Prop} (E : zz_E G (some .int) K (fun _ _ _ => False)) (hH : zz_H G []) (hR : zz_Rm G 4) : ∀ (n : Nat) (v0 : Option Nat) (v1 : Int32) (v2 : Int32) (v3 : Option Nat) (v4 : Int32) (v5 : Int32) (M : zzM) (bc bs : Nat), wp_X4_speakerTold_L10 (zz_Zof G) K n v0 v1 v2 v3 v4 v5 M bc bs → zz_T G 6 M bc bs 10 [(0, va_rf v0), (1, .int v1), (2, .int v2), (3, va_rf v3), (4, .int v4), (5, .int v5)] [] := by
  intro n
  induction n with
  | zero =>
    intro v0 v1 v2 v3 v4 v5 M bc bs hw
    exact False.elim hw
  | succ n ih =>
    intro v0 v1 v2 v3 v4 v5 M bc bs hw
    refine zz_iload C dX4_speakerTold_10 5 rfl ?_
    refine zz_aload_n C dX4_speakerTold_12 rfl 0 rfl ?_
    refine zz_getA C dX4_speakerTold_13 (Or.inl q2447) zf_16_11_ebateHallModel hw (fun x5 hw => ?_)
    refine zz_getI C dX4_speakerTold_16 (Or.inr ⟨_, q2394⟩) zf_17_3_allModel_State hw (fun x6 hw => ?_)
    refine zz_icmp_ge (tgt := 76) C dX4_speakerTold_19 (by decide) hw (fun hw => ?_) (fun hw => ?_)
    · refine zz_bipush (v := (7 : Int32)) C dX4_speakerTold_76 (by decide) ?_
      refine zz_newar (t := 100) (ty := .int) C dX4_speakerTold_78 rfl rfl (by decide) (fun _ _ h9 => h9) rfl q270 hw (fun q7 M8 bc9 bs10 hw => ?_)
      refine zz_dup C dX4_speakerTold_80 (zz_cat _) ?_
      refine zz_iconst (v := (0 : Int32)) C dX4_speakerTold_81 (by decide) ?_
      refine zz_aload_n C dX4_speakerTold_82 rfl 0 rfl ?_
      refine zz_getA C dX4_speakerTold_83 (Or.inl q2447) zf_16_11_ebateHallModel hw (fun x11 hw => ?_)
      refine zz_getA C dX4_speakerTold_86 (Or.inr ⟨_, q2392⟩) zf_17_2_allModel_State hw (fun x12 hw => ?_)
      refine zz_iload_n C dX4_speakerTold_89 rfl 1 rfl ?_
      refine zz_iald C dX4_speakerTold_90 hw (fun x13 hw => ?_)
      refine zz_iast C dX4_speakerTold_91 hw (fun M14 hw => ?_)
      refine zz_dup C dX4_speakerTold_92 (zz_cat _) ?_
      refine zz_iconst (v := (1 : Int32)) C dX4_speakerTold_93 (by decide) ?_
      refine zz_aload_n C dX4_speakerTold_94 rfl 0 rfl ?_
      refine zz_iload_n C dX4_speakerTold_95 rfl 1 rfl ?_
      refine zz_aload_n C dX4_speakerTold_96 rfl 0 rfl ?_
      refine zz_getA C dX4_speakerTold_97 (Or.inl q2449) zf_16_13_ebateHallModel hw (fun x15 hw => ?_)
      obtain ⟨a9, t9, b9, fs9, hro, hL, rfl, hw⟩ := ztyS hw
      refine zz_callV (r := (zR_16, zT_16, 24)) (As := [.int v1, va_rf x15]) (rest := [.int (1 : Int32), va_rf (some q7), va_rf (some q7)]) (mc := 0) (ms := 0) C hR hro dX4_speakerTold_100 (Or.inl q2744) q2746 (Or.inl qs67) zl_DebateHallModel zk_X4_score (Or.inl rfl) zy_X4_score rfl (by decide) (by decide) hL (ok_X4_score (zz_hl C) hw) (Nat.zero_le _) (Nat.zero_le _) (zz_cat10 _ (Nat.le_of_ble_eq_true rfl)) (fun r16 M17 hw => zz_kI hw (fun x20 hw => ?_)) (fun _ _ _ h9 => h9.elim) rfl
      refine zz_iast C dX4_speakerTold_103 hw (fun M21 hw => ?_)
      refine zz_dup C dX4_speakerTold_104 (zz_cat _) ?_
      refine zz_iconst (v := (2 : Int32)) C dX4_speakerTold_105 (by decide) ?_
      refine zz_aload_n C dX4_speakerTold_106 rfl 0 rfl ?_
      refine zz_iload_n C dX4_speakerTold_107 rfl 1 rfl ?_
      refine zz_aload_n C dX4_speakerTold_108 rfl 0 rfl ?_
      refine zz_getA C dX4_speakerTold_109 (Or.inl q2449) zf_16_13_ebateHallModel hw (fun x22 hw => ?_)
      obtain ⟨a9, t9, b9, fs9, hro, hL, rfl, hw⟩ := ztyS hw
      refine zz_callV (r := (zR_16, zT_16, 24)) (As := [.int v1, va_rf x22]) (rest := [.int (2 : Int32), va_rf (some q7), va_rf (some q7)]) (mc := 0) (ms := 0) C hR hro dX4_speakerTold_112 (Or.inl q2748) q2750 (Or.inl qs68) zl_DebateHallModel zk_X4_lead (Or.inl rfl) zy_X4_lead rfl (by decide) (by decide) hL (ok_X4_lead (zz_hl C) hw) (Nat.zero_le _) (Nat.zero_le _) (zz_cat10 _ (Nat.le_of_ble_eq_true rfl)) (fun r23 M24 hw => zz_kI hw (fun x27 hw => ?_)) (fun _ _ _ h9 => h9.elim) rfl
      refine zz_iast C dX4_speakerTold_115 hw (fun M28 hw => ?_)
      refine zz_dup C dX4_speakerTold_116 (zz_cat _) ?_
      refine zz_iconst (v := (3 : Int32)) C dX4_speakerTold_117 (by decide) ?_
      refine zz_aload_n C dX4_speakerTold_118 rfl 3 rfl ?_
      refine zz_iconst (v := (0 : Int32)) C dX4_speakerTold_119 (by decide) ?_
      refine zz_iald C dX4_speakerTold_120 hw (fun x29 hw => ?_)
      refine zz_iast C dX4_speakerTold_121 hw (fun M30 hw => ?_)
      refine zz_dup C dX4_speakerTold_122 (zz_cat _) ?_
      refine zz_iconst (v := (4 : Int32)) C dX4_speakerTold_123 (by decide) ?_
      refine zz_aload_n C dX4_speakerTold_124 rfl 3 rfl ?_
      refine zz_iconst (v := (1 : Int32)) C dX4_speakerTold_125 (by decide) ?_
      refine zz_iald C dX4_speakerTold_126 hw (fun x31 hw => ?_)
      refine zz_iast C dX4_speakerTold_127 hw (fun M32 hw => ?_)
      refine zz_dup C dX4_speakerTold_128 (zz_cat _) ?_
      refine zz_iconst (v := (5 : Int32)) C dX4_speakerTold_129 (by decide) ?_
      refine zz_aload_n C dX4_speakerTold_130 rfl 3 rfl ?_
      refine zz_iconst (v := (2 : Int32)) C dX4_speakerTold_131 (by decide) ?_
      refine zz_iald C dX4_speakerTold_132 hw (fun x33 hw => ?_)
      refine zz_iast C dX4_speakerTold_133 hw (fun M34 hw => ?_)
      refine zz_dup C dX4_speakerTold_134 (zz_cat _) ?_
      refine zz_bipush (v := (6 : Int32)) C dX4_speakerTold_135 (by decide) ?_
      refine zz_iload C dX4_speakerTold_137 4 rfl ?_
      refine zz_iast C dX4_speakerTold_139 hw (fun M35 hw => ?_)
      refine zz_astore (lv' := [(5, va_rf (some q7)), (0, va_rf v0), (1, .int v1), (2, .int v2), (3, va_rf v3), (4, .int v4)]) C dX4_speakerTold_140 (by decide) rfl ?_
      refine zz_aload C dX4_speakerTold_142 0 rfl ?_
      refine zz_iload_n C dX4_speakerTold_144 rfl 3 rfl ?_
      refine zz_iald C dX4_speakerTold_145 hw (fun x36 hw => ?_)
      exact zz_iret C E dX4_speakerTold_146 hw
    · refine zz_aload_n C dX4_speakerTold_22 rfl 0 rfl ?_
      refine zz_getA C dX4_speakerTold_23 (Or.inl q2447) zf_16_11_ebateHallModel hw (fun x37 hw => ?_)
      refine zz_getA C dX4_speakerTold_26 (Or.inr ⟨_, q2400⟩) zf_17_6_allModel_State hw (fun x38 hw => ?_)
      refine zz_iload C dX4_speakerTold_29 5 rfl ?_
      refine zz_iald C dX4_speakerTold_31 hw (fun x39 hw => ?_)
      refine zz_iload_n C dX4_speakerTold_32 rfl 1 rfl ?_
      refine zz_icmp_eq (tgt := 39) C dX4_speakerTold_33 (by decide) hw (fun hw => ?_) (fun hw => ?_)
      · refine zz_aload_n C dX4_speakerTold_39 rfl 3 rfl ?_
        refine zz_aload_n C dX4_speakerTold_40 rfl 0 rfl ?_
        refine zz_getA C dX4_speakerTold_41 (Or.inl q2447) zf_16_11_ebateHallModel hw (fun x40 hw => ?_)
        refine zz_getA C dX4_speakerTold_44 (Or.inr ⟨_, q2398⟩) zf_17_5_allModel_State hw (fun x41 hw => ?_)
        refine zz_iload C dX4_speakerTold_47 5 rfl ?_
        refine zz_iald C dX4_speakerTold_49 hw (fun x42 hw => ?_)
        refine zz_dup2 C dX4_speakerTold_50 rfl (zz_cat _) ?_
        refine zz_iald C dX4_speakerTold_51 hw (fun x43 hw => ?_)
        refine zz_iconst (v := (1 : Int32)) C dX4_speakerTold_52 (by decide) ?_
        refine zz_iadd C dX4_speakerTold_53 ?_
        refine zz_iast C dX4_speakerTold_54 hw (fun M44 hw => ?_)
        refine zz_iload C dX4_speakerTold_55 4 rfl ?_
        refine zz_aload_n C dX4_speakerTold_57 rfl 0 rfl ?_
        refine zz_getA C dX4_speakerTold_58 (Or.inl q2447) zf_16_11_ebateHallModel hw (fun x45 hw => ?_)
        refine zz_getA C dX4_speakerTold_61 (Or.inr ⟨_, q2408⟩) zf_17_10_allModel_State hw (fun x46 hw => ?_)
        refine zz_iload C dX4_speakerTold_64 5 rfl ?_
        refine zz_iald C dX4_speakerTold_66 hw (fun x47 hw => ?_)
        refine zz_iadd C dX4_speakerTold_67 ?_
        refine zz_istore (lv' := [(4, .int (v4 + x47)), (0, va_rf v0), (1, .int v1), (2, .int v2), (3, va_rf v3), (5, .int v5)]) C dX4_speakerTold_68 (by decide) (by simp [zz_cat, zz_catI, zz_catJ, zz_catD]) ?_
        refine zz_subP [1, 2, 3, 4, 0, 5] rfl ?_
        exact ok_X4_speakerTold_B70 C E hH hR (fun z0 z1 z2 z3 z4 z5 z6 z7 z8 hw => ih z0 z1 z2 z3 z4 z5 z6 z7 z8 hw) hw
      · refine zz_goto (tgt := 70) C dX4_speakerTold_36 (by decide) ?_
        refine zz_subP [0, 1, 2, 3, 4, 5] rfl ?_
        exact ok_X4_speakerTold_B70 C E hH hR (fun z0 z1 z2 z3 z4 z5 z6 z7 z8 hw => ih z0 z1 z2 z3 z4 z5 z6 z7 z8 hw) hw
theorem ok_X4_speakerTold {Z : zzG} {l : Launch} (hl : l.stackTraces = false) {this : Option Nat} {p0 : Int32} {p1 : Int32} {M : zzM} {mc ms : Nat} {K : Option Value → zzM → Prop} (hw : wp_X4_speakerTold Z this p0 p1 M mc ms K) : zz_Met Z l yX4_speakerTold (zz_ws yX4_speakerTold cX4_speakerTold 6 (some .int) none) 4 [va_rf this, .int p0, .int p1] M mc ms K (fun _ _ _ => False) := by
  refine zz_ofW hl (plainFor_of_name (by decide)) (by simp only [zz_sl0, zz_slI, zz_slJ, zz_slA] <;> decide) (fun G hZ hll C E hH hR hin => ?_)
  subst hZ
  subst hll
  rw [show lv_args 0 [va_rf this, .int p0, .int p1] = [(0, va_rf this), (1, .int p0), (2, .int p1)] by simp only [zz_la0, zz_laI, zz_laJ, zz_laA]]
  unfold wp_X4_speakerTold at hw
  refine zz_iconst (v := (3 : Int32)) C dX4_speakerTold_0 (by decide) ?_
  refine zz_newar (t := 100) (ty := .int) C dX4_speakerTold_1 rfl rfl (by decide) (fun _ _ h9 => h9) rfl q270 hw (fun q1 M2 bc3 bs4 hw => ?_)
  refine zz_astore_n (i := 3) (lv' := [(3, va_rf (some q1)), (0, va_rf this), (1, .int p0), (2, .int p1)]) C dX4_speakerTold_3 rfl (by decide) rfl ?_
  refine zz_iconst (v := (0 : Int32)) C dX4_speakerTold_4 (by decide) ?_
  refine zz_istore (lv' := [(4, .int (0 : Int32)), (3, va_rf (some q1)), (0, va_rf this), (1, .int p0), (2, .int p1)]) C dX4_speakerTold_5 (by decide) (by simp [zz_cat, zz_catI, zz_catJ, zz_catD]) ?_
  refine zz_iconst (v := (0 : Int32)) C dX4_speakerTold_7 (by decide) ?_
  refine zz_istore (lv' := [(5, .int (0 : Int32)), (4, .int (0 : Int32)), (3, va_rf (some q1)), (0, va_rf this), (1, .int p0), (2, .int p1)]) C dX4_speakerTold_8 (by decide) rfl ?_
  refine zz_subP [3, 4, 5, 2, 1, 0] rfl ?_
  obtain ⟨n10, hw⟩ := hw
  exact ok_X4_speakerTold_L10 C E hH hR n10 _ _ _ _ _ _ _ _ _ hw
abbrev cX4_on : ByteArray := prog_25_method_51_code
def yX4_on : MethodName := ⟨"DebateHallModel", "on", "(II)I"⟩
def dkwX4_on_2 : List UInt8 := [4, 167, 0, 4, 3, 96, 62, 132, 4, 1, 167, 255, 205, 29, 172]
abbrev dktX4_on_2 : List UInt8 := dkwX4_on_2 ++ []
def dkwX4_on_1 : List UInt8 := [180, 0, 124, 21, 4, 46, 28, 160, 0, 21, 42, 180, 0, 48, 180, 0, 111, 21, 4, 46, 27, 160, 0, 7]
abbrev dktX4_on_1 : List UInt8 := dkwX4_on_1 ++ dktX4_on_2
def dkwX4_on_0 : List UInt8 := [3, 62, 3, 54, 4, 21, 4, 42, 180, 0, 48, 180, 0, 95, 162, 0, 45, 29, 42, 180, 0, 48]
abbrev dktX4_on_0 : List UInt8 := dkwX4_on_0 ++ dktX4_on_1
theorem dksX4_on_0 : cX4_on.data.toList.drop 0 = dktX4_on_0 := by decide +kernel
theorem dksX4_on_1 : cX4_on.data.toList.drop 22 = dktX4_on_1 := dk_seg dksX4_on_0 22 rfl rfl
theorem dksX4_on_2 : cX4_on.data.toList.drop 46 = dktX4_on_2 := dk_seg dksX4_on_1 24 rfl rfl
theorem dX4_on_0 : decode cX4_on 0 = .ok (.iconst 0, 1) := dk_3 (dk_at dksX4_on_0 0 rfl rfl)
theorem dX4_on_1 : decode cX4_on 1 = .ok (.istore_n 3, 1) := dk_62 (dk_at dksX4_on_0 1 rfl rfl)
theorem dX4_on_2 : decode cX4_on 2 = .ok (.iconst 0, 1) := dk_3 (dk_at dksX4_on_0 2 rfl rfl)
theorem dX4_on_3 : decode cX4_on 3 = .ok (.istore 4, 2) := dk_54 4 (dk_at dksX4_on_0 3 rfl rfl)
theorem dX4_on_5 : decode cX4_on 5 = .ok (.iload 4, 2) := dk_21 4 (dk_at dksX4_on_0 5 rfl rfl)
theorem dX4_on_7 : decode cX4_on 7 = .ok (.aload_n 0, 1) := dk_42 (dk_at dksX4_on_0 7 rfl rfl)
theorem dX4_on_8 : decode cX4_on 8 = .ok (.getfield 48, 3) := dk_180 0 48 (dk_at dksX4_on_0 8 rfl rfl)
theorem dX4_on_11 : decode cX4_on 11 = .ok (.getfield 95, 3) := dk_180 0 95 (dk_at dksX4_on_0 11 rfl rfl)
theorem dX4_on_14 : decode cX4_on 14 = .ok (.if_icmp .ge 45, 3) := dk_162 0 45 (dk_at dksX4_on_0 14 rfl rfl)
theorem dX4_on_17 : decode cX4_on 17 = .ok (.iload_n 3, 1) := dk_29 (dk_at dksX4_on_0 17 rfl rfl)
theorem dX4_on_18 : decode cX4_on 18 = .ok (.aload_n 0, 1) := dk_42 (dk_at dksX4_on_0 18 rfl rfl)
theorem dX4_on_19 : decode cX4_on 19 = .ok (.getfield 48, 3) := dk_180 0 48 (dk_at dksX4_on_0 19 rfl rfl)
theorem dX4_on_22 : decode cX4_on 22 = .ok (.getfield 124, 3) := dk_180 0 124 (dk_at dksX4_on_1 0 rfl rfl)
theorem dX4_on_25 : decode cX4_on 25 = .ok (.iload 4, 2) := dk_21 4 (dk_at dksX4_on_1 3 rfl rfl)
theorem dX4_on_27 : decode cX4_on 27 = .ok (.iaload, 1) := dk_46 (dk_at dksX4_on_1 5 rfl rfl)
theorem dX4_on_28 : decode cX4_on 28 = .ok (.iload_n 2, 1) := dk_28 (dk_at dksX4_on_1 6 rfl rfl)
theorem dX4_on_29 : decode cX4_on 29 = .ok (.if_icmp .ne 21, 3) := dk_160 0 21 (dk_at dksX4_on_1 7 rfl rfl)
theorem dX4_on_32 : decode cX4_on 32 = .ok (.aload_n 0, 1) := dk_42 (dk_at dksX4_on_1 10 rfl rfl)
theorem dX4_on_33 : decode cX4_on 33 = .ok (.getfield 48, 3) := dk_180 0 48 (dk_at dksX4_on_1 11 rfl rfl)
theorem dX4_on_36 : decode cX4_on 36 = .ok (.getfield 111, 3) := dk_180 0 111 (dk_at dksX4_on_1 14 rfl rfl)
theorem dX4_on_39 : decode cX4_on 39 = .ok (.iload 4, 2) := dk_21 4 (dk_at dksX4_on_1 17 rfl rfl)
theorem dX4_on_41 : decode cX4_on 41 = .ok (.iaload, 1) := dk_46 (dk_at dksX4_on_1 19 rfl rfl)
theorem dX4_on_42 : decode cX4_on 42 = .ok (.iload_n 1, 1) := dk_27 (dk_at dksX4_on_1 20 rfl rfl)
theorem dX4_on_43 : decode cX4_on 43 = .ok (.if_icmp .ne 7, 3) := dk_160 0 7 (dk_at dksX4_on_1 21 rfl rfl)
theorem dX4_on_46 : decode cX4_on 46 = .ok (.iconst 1, 1) := dk_4 (dk_at dksX4_on_2 0 rfl rfl)
theorem dX4_on_47 : decode cX4_on 47 = .ok (.goto 4, 3) := dk_167 0 4 (dk_at dksX4_on_2 1 rfl rfl)
theorem dX4_on_50 : decode cX4_on 50 = .ok (.iconst 0, 1) := dk_3 (dk_at dksX4_on_2 4 rfl rfl)
theorem dX4_on_51 : decode cX4_on 51 = .ok (.iadd, 1) := dk_96 (dk_at dksX4_on_2 5 rfl rfl)
theorem dX4_on_52 : decode cX4_on 52 = .ok (.istore_n 3, 1) := dk_62 (dk_at dksX4_on_2 6 rfl rfl)
theorem dX4_on_53 : decode cX4_on 53 = .ok (.iinc 4 1, 3) := dk_132 4 1 (dk_at dksX4_on_2 7 rfl rfl)
theorem dX4_on_56 : decode cX4_on 56 = .ok (.goto (-51), 3) := dk_167 255 205 (dk_at dksX4_on_2 10 rfl rfl)
theorem dX4_on_59 : decode cX4_on 59 = .ok (.iload_n 3, 1) := dk_29 (dk_at dksX4_on_2 13 rfl rfl)
theorem dX4_on_60 : decode cX4_on 60 = .ok (.ireturn, 1) := dk_172 (dk_at dksX4_on_2 14 rfl rfl)
def wp_X4_on_B51 (Z : zzG) (k5 : Option Nat → Int32 → Int32 → Int32 → Int32 → zzM → Prop) (K : Option Value → zzM → Prop) (v0 : Option Nat) (v1 : Int32) (v2 : Int32) (v4 : Int32) (s0 : Int32) (s1 : Int32) (M : zzM) : Prop := k5 v0 v1 v2 (s1 + s0) (v4 + 1) M
def wp_X4_on_B50 (Z : zzG) (k5 : Option Nat → Int32 → Int32 → Int32 → Int32 → zzM → Prop) (K : Option Value → zzM → Prop) (v0 : Option Nat) (v1 : Int32) (v2 : Int32) (v4 : Int32) (s0 : Int32) (M : zzM) : Prop := wp_X4_on_B51 Z k5 K v0 v1 v2 v4 (0 : Int32) s0 M
def wp_X4_on_L5 (Z : zzG) (K : Option Value → zzM → Prop) : Nat → Option Nat → Int32 → Int32 → Int32 → Int32 → zzM → Prop
  | 0, _, _, _, _, _, _ => False
  | n + 1, v0, v1, v2, v3, v4, M => zgA Z M v0 [16] 11 fun x1 => zgI Z M x1 [17] 3 fun x2 => if x2 ≤ v4 then (K (some (.int v3)) M) else (zgA Z M v0 [16] 11 fun x3 => zgA Z M x3 [17] 5 fun x4 => zaI Z M x4 [100] v4 fun x5 => if x5 = v2 then (zgA Z M v0 [16] 11 fun x6 => zgA Z M x6 [17] 9 fun x7 => zaI Z M x7 [100] v4 fun x8 => if x8 = v1 then (wp_X4_on_B51 Z (wp_X4_on_L5 Z K n) K v0 v1 v2 v4 (1 : Int32) v3 M) else (wp_X4_on_B50 Z (wp_X4_on_L5 Z K n) K v0 v1 v2 v4 v3 M)) else (wp_X4_on_B50 Z (wp_X4_on_L5 Z K n) K v0 v1 v2 v4 v3 M))
def wp_X4_on (Z : zzG) (this : Option Nat) (p0 : Int32) (p1 : Int32) (M : zzM) (K : Option Value → zzM → Prop) : Prop := ∃ n5 : Nat, wp_X4_on_L5 Z K n5 this p0 p1 (0 : Int32) (0 : Int32) M
theorem ok_X4_on_B51 {G : zzX} (C : zz_C G cX4_on "DebateHallModel" 5) {K : Option Value → zzM → Prop} (E : zz_E G (some .int) K (fun _ _ _ => False)) (hH : zz_H G []) (hR : zz_Rm G 1) {k5 : Option Nat → Int32 → Int32 → Int32 → Int32 → zzM → Prop} (hk5 : ∀ (z0 : Option Nat) (z1 : Int32) (z2 : Int32) (z3 : Int32) (z4 : Int32) (M : zzM) (bc bs : Nat), k5 z0 z1 z2 z3 z4 M → zz_T G 5 M bc bs 5 [(0, va_rf z0), (1, .int z1), (2, .int z2), (3, .int z3), (4, .int z4)] []) {v0 : Option Nat} {v1 : Int32} {v2 : Int32} {v4 : Int32} {s0 : Int32} {s1 : Int32} {M : zzM} {bc bs : Nat} (hw : wp_X4_on_B51 (zz_Zof G) k5 K v0 v1 v2 v4 s0 s1 M) : zz_T G 5 M bc bs 51 [(0, va_rf v0), (1, .int v1), (2, .int v2), (4, .int v4)] [.int s0, .int s1] := by
  unfold wp_X4_on_B51 at hw
  refine zz_iadd C dX4_on_51 ?_
  refine zz_istore_n (i := 3) (lv' := [(3, .int (s1 + s0)), (0, va_rf v0), (1, .int v1), (2, .int v2), (4, .int v4)]) C dX4_on_52 rfl (by decide) rfl ?_
  refine zz_iinc (lv' := [(4, .int (v4 + 1)), (3, .int (s1 + s0)), (0, va_rf v0), (1, .int v1), (2, .int v2)]) C dX4_on_53 4 rfl (by rfl) (by decide) rfl ?_
  refine zz_goto (tgt := 5) C dX4_on_56 (by decide) ?_
  refine zz_subP [2, 3, 4, 1, 0] rfl ?_
  exact hk5 _ _ _ _ _ _ _ _ hw
theorem ok_X4_on_B50 {G : zzX} (C : zz_C G cX4_on "DebateHallModel" 5) {K : Option Value → zzM → Prop} (E : zz_E G (some .int) K (fun _ _ _ => False)) (hH : zz_H G []) (hR : zz_Rm G 1) {k5 : Option Nat → Int32 → Int32 → Int32 → Int32 → zzM → Prop} (hk5 : ∀ (z0 : Option Nat) (z1 : Int32) (z2 : Int32) (z3 : Int32) (z4 : Int32) (M : zzM) (bc bs : Nat), k5 z0 z1 z2 z3 z4 M → zz_T G 5 M bc bs 5 [(0, va_rf z0), (1, .int z1), (2, .int z2), (3, .int z3), (4, .int z4)] []) {v0 : Option Nat} {v1 : Int32} {v2 : Int32} {v4 : Int32} {s0 : Int32} {M : zzM} {bc bs : Nat} (hw : wp_X4_on_B50 (zz_Zof G) k5 K v0 v1 v2 v4 s0 M) : zz_T G 5 M bc bs 50 [(0, va_rf v0), (1, .int v1), (2, .int v2), (4, .int v4)] [.int s0] := by
  unfold wp_X4_on_B50 at hw
  refine zz_iconst (v := (0 : Int32)) C dX4_on_50 (by decide) ?_
  refine zz_subP [0, 1, 2, 3] rfl ?_
  exact ok_X4_on_B51 C E hH hR hk5 hw
theorem ok_X4_on_L5 {G : zzX} (C : zz_C G cX4_on "DebateHallModel" 5) {K : Option Value → zzM → Prop} (E : zz_E G (some .int) K (fun _ _ _ => False)) (hH : zz_H G []) (hR : zz_Rm G 1) : ∀ (n : Nat) (v0 : Option Nat) (v1 : Int32) (v2 : Int32) (v3 : Int32) (v4 : Int32) (M : zzM) (bc bs : Nat), wp_X4_on_L5 (zz_Zof G) K n v0 v1 v2 v3 v4 M → zz_T G 5 M bc bs 5 [(0, va_rf v0), (1, .int v1), (2, .int v2), (3, .int v3), (4, .int v4)] [] := by
  intro n
  induction n with
  | zero =>
    intro v0 v1 v2 v3 v4 M bc bs hw
    exact False.elim hw
  | succ n ih =>
    intro v0 v1 v2 v3 v4 M bc bs hw
    refine zz_iload C dX4_on_5 4 rfl ?_
    refine zz_aload_n C dX4_on_7 rfl 0 rfl ?_
    refine zz_getA C dX4_on_8 (Or.inl q2447) zf_16_11_ebateHallModel hw (fun x1 hw => ?_)
    refine zz_getI C dX4_on_11 (Or.inr ⟨_, q2394⟩) zf_17_3_allModel_State hw (fun x2 hw => ?_)
    refine zz_icmp_ge (tgt := 59) C dX4_on_14 (by decide) hw (fun hw => ?_) (fun hw => ?_)
    · refine zz_iload_n C dX4_on_59 rfl 3 rfl ?_
      exact zz_iret C E dX4_on_60 hw
    · refine zz_iload_n C dX4_on_17 rfl 3 rfl ?_
      refine zz_aload_n C dX4_on_18 rfl 0 rfl ?_
      refine zz_getA C dX4_on_19 (Or.inl q2447) zf_16_11_ebateHallModel hw (fun x3 hw => ?_)
      refine zz_getA C dX4_on_22 (Or.inr ⟨_, q2398⟩) zf_17_5_allModel_State hw (fun x4 hw => ?_)
      refine zz_iload C dX4_on_25 4 rfl ?_
      refine zz_iald C dX4_on_27 hw (fun x5 hw => ?_)
      refine zz_iload_n C dX4_on_28 rfl 2 rfl ?_
      refine zz_icmp_ne (tgt := 50) C dX4_on_29 (by decide) hw (fun hw => ?_) (fun hw => ?_)
      · refine zz_subP [0, 1, 2, 4] rfl ?_
        exact ok_X4_on_B50 C E hH hR (fun z0 z1 z2 z3 z4 z5 z6 z7 hw => ih z0 z1 z2 z3 z4 z5 z6 z7 hw) hw
      · refine zz_aload_n C dX4_on_32 rfl 0 rfl ?_
        refine zz_getA C dX4_on_33 (Or.inl q2447) zf_16_11_ebateHallModel hw (fun x6 hw => ?_)
        refine zz_getA C dX4_on_36 (Or.inr ⟨_, q2406⟩) zf_17_9_allModel_State hw (fun x7 hw => ?_)
        refine zz_iload C dX4_on_39 4 rfl ?_
        refine zz_iald C dX4_on_41 hw (fun x8 hw => ?_)
        refine zz_iload_n C dX4_on_42 rfl 1 rfl ?_
        refine zz_icmp_ne (tgt := 50) C dX4_on_43 (by decide) hw (fun hw => ?_) (fun hw => ?_)
        · refine zz_subP [0, 1, 2, 4] rfl ?_
          exact ok_X4_on_B50 C E hH hR (fun z0 z1 z2 z3 z4 z5 z6 z7 hw => ih z0 z1 z2 z3 z4 z5 z6 z7 hw) hw
        · refine zz_iconst (v := (1 : Int32)) C dX4_on_46 (by decide) ?_
          refine zz_goto (tgt := 51) C dX4_on_47 (by decide) ?_
          refine zz_subP [0, 1, 2, 4] rfl ?_
          exact ok_X4_on_B51 C E hH hR (fun z0 z1 z2 z3 z4 z5 z6 z7 hw => ih z0 z1 z2 z3 z4 z5 z6 z7 hw) hw
theorem ok_X4_on {Z : zzG} {l : Launch} (hl : l.stackTraces = false) {this : Option Nat} {p0 : Int32} {p1 : Int32} {M : zzM} {mc ms : Nat} {K : Option Value → zzM → Prop} (hw : wp_X4_on Z this p0 p1 M K) : zz_Met Z l yX4_on (zz_ws yX4_on cX4_on 5 (some .int) none) 1 [va_rf this, .int p0, .int p1] M mc ms K (fun _ _ _ => False) := by
  refine zz_ofW hl (plainFor_of_name (by decide)) (by simp only [zz_sl0, zz_slI, zz_slJ, zz_slA] <;> decide) (fun G hZ hll C E hH hR hin => ?_)
  subst hZ
  subst hll
  rw [show lv_args 0 [va_rf this, .int p0, .int p1] = [(0, va_rf this), (1, .int p0), (2, .int p1)] by simp only [zz_la0, zz_laI, zz_laJ, zz_laA]]
  unfold wp_X4_on at hw
  refine zz_iconst (v := (0 : Int32)) C dX4_on_0 (by decide) ?_
  refine zz_istore_n (i := 3) (lv' := [(3, .int (0 : Int32)), (0, va_rf this), (1, .int p0), (2, .int p1)]) C dX4_on_1 rfl (by decide) rfl ?_
  refine zz_iconst (v := (0 : Int32)) C dX4_on_2 (by decide) ?_
  refine zz_istore (lv' := [(4, .int (0 : Int32)), (3, .int (0 : Int32)), (0, va_rf this), (1, .int p0), (2, .int p1)]) C dX4_on_3 (by decide) rfl ?_
  refine zz_subP [2, 3, 4, 1, 0] rfl ?_
  obtain ⟨n5, hw⟩ := hw
  exact ok_X4_on_L5 C E hH hR n5 _ _ _ _ _ _ _ _ hw
abbrev cX4_itemTold : ByteArray := prog_25_method_52_code
def yX4_itemTold : MethodName := ⟨"DebateHallModel", "itemTold", "(II)I"⟩
def dkwX4_itemTold_6 : List UInt8 := [182, 1, 90, 172, 42, 27, 5, 182, 1, 90, 172]
abbrev dktX4_itemTold_6 : List UInt8 := dkwX4_itemTold_6 ++ []
def dkwX4_itemTold_5 : List UInt8 := [46, 172, 42, 180, 0, 48, 27, 182, 0, 108, 153, 0, 7, 4, 167, 0, 4, 3, 172, 42, 27, 4]
abbrev dktX4_itemTold_5 : List UInt8 := dkwX4_itemTold_5 ++ dktX4_itemTold_6
def dkwX4_itemTold_4 : List UInt8 := [46, 172, 42, 180, 0, 55, 27, 46, 172, 42, 180, 0, 58, 27, 46, 172, 42, 180, 0, 48, 180, 0, 98, 27]
abbrev dktX4_itemTold_4 : List UInt8 := dkwX4_itemTold_4 ++ dktX4_itemTold_5
def dkwX4_itemTold_3 : List UInt8 := [180, 0, 127, 27, 46, 172, 42, 180, 0, 48, 180, 0, 101, 27, 46, 172, 42, 180, 0, 48, 180, 0, 111, 27]
abbrev dktX4_itemTold_3 : List UInt8 := dkwX4_itemTold_3 ++ dktX4_itemTold_4
def dkwX4_itemTold_2 : List UInt8 := [42, 180, 0, 48, 180, 0, 124, 27, 46, 172, 42, 180, 0, 48, 180, 0, 121, 27, 46, 172, 42, 180, 0, 48]
abbrev dktX4_itemTold_2 : List UInt8 := dkwX4_itemTold_2 ++ dktX4_itemTold_3
def dkwX4_itemTold_1 : List UInt8 := [170, 0, 0, 0, 0, 0, 153, 0, 0, 0, 0, 0, 0, 0, 9, 0, 0, 0, 55, 0, 0, 0, 65, 0, 0, 0, 75, 0, 0, 0, 85, 0, 0, 0, 95, 0, 0, 0, 105, 0, 0, 0, 112, 0, 0, 0, 119, 0, 0, 0, 129, 0, 0, 0, 146]
abbrev dktX4_itemTold_1 : List UInt8 := dkwX4_itemTold_1 ++ dktX4_itemTold_2
def dkwX4_itemTold_0 : List UInt8 := [28]
abbrev dktX4_itemTold_0 : List UInt8 := dkwX4_itemTold_0 ++ dktX4_itemTold_1
theorem dksX4_itemTold_0 : cX4_itemTold.data.toList.drop 0 = dktX4_itemTold_0 := by decide +kernel
theorem dksX4_itemTold_1 : cX4_itemTold.data.toList.drop 1 = dktX4_itemTold_1 := dk_seg dksX4_itemTold_0 1 rfl rfl
theorem dksX4_itemTold_2 : cX4_itemTold.data.toList.drop 56 = dktX4_itemTold_2 := dk_seg dksX4_itemTold_1 55 rfl rfl
theorem dksX4_itemTold_3 : cX4_itemTold.data.toList.drop 80 = dktX4_itemTold_3 := dk_seg dksX4_itemTold_2 24 rfl rfl
theorem dksX4_itemTold_4 : cX4_itemTold.data.toList.drop 104 = dktX4_itemTold_4 := dk_seg dksX4_itemTold_3 24 rfl rfl
theorem dksX4_itemTold_5 : cX4_itemTold.data.toList.drop 128 = dktX4_itemTold_5 := dk_seg dksX4_itemTold_4 24 rfl rfl
theorem dksX4_itemTold_6 : cX4_itemTold.data.toList.drop 150 = dktX4_itemTold_6 := dk_seg dksX4_itemTold_5 22 rfl rfl
theorem dX4_itemTold_0 : decode cX4_itemTold 0 = .ok (.iload_n 2, 1) := dk_28 (dk_at dksX4_itemTold_0 0 rfl rfl)
theorem dX4_itemTold_1 : decode cX4_itemTold 1 = .ok (.tableswitch 153 0 9 #[55, 65, 75, 85, 95, 105, 112, 119, 129, 146], 55) := by decide +kernel
theorem dX4_itemTold_56 : decode cX4_itemTold 56 = .ok (.aload_n 0, 1) := dk_42 (dk_at dksX4_itemTold_2 0 rfl rfl)
theorem dX4_itemTold_57 : decode cX4_itemTold 57 = .ok (.getfield 48, 3) := dk_180 0 48 (dk_at dksX4_itemTold_2 1 rfl rfl)
theorem dX4_itemTold_60 : decode cX4_itemTold 60 = .ok (.getfield 124, 3) := dk_180 0 124 (dk_at dksX4_itemTold_2 4 rfl rfl)
theorem dX4_itemTold_63 : decode cX4_itemTold 63 = .ok (.iload_n 1, 1) := dk_27 (dk_at dksX4_itemTold_2 7 rfl rfl)
theorem dX4_itemTold_64 : decode cX4_itemTold 64 = .ok (.iaload, 1) := dk_46 (dk_at dksX4_itemTold_2 8 rfl rfl)
theorem dX4_itemTold_65 : decode cX4_itemTold 65 = .ok (.ireturn, 1) := dk_172 (dk_at dksX4_itemTold_2 9 rfl rfl)
theorem dX4_itemTold_66 : decode cX4_itemTold 66 = .ok (.aload_n 0, 1) := dk_42 (dk_at dksX4_itemTold_2 10 rfl rfl)
theorem dX4_itemTold_67 : decode cX4_itemTold 67 = .ok (.getfield 48, 3) := dk_180 0 48 (dk_at dksX4_itemTold_2 11 rfl rfl)
theorem dX4_itemTold_70 : decode cX4_itemTold 70 = .ok (.getfield 121, 3) := dk_180 0 121 (dk_at dksX4_itemTold_2 14 rfl rfl)
theorem dX4_itemTold_73 : decode cX4_itemTold 73 = .ok (.iload_n 1, 1) := dk_27 (dk_at dksX4_itemTold_2 17 rfl rfl)
theorem dX4_itemTold_74 : decode cX4_itemTold 74 = .ok (.iaload, 1) := dk_46 (dk_at dksX4_itemTold_2 18 rfl rfl)
theorem dX4_itemTold_75 : decode cX4_itemTold 75 = .ok (.ireturn, 1) := dk_172 (dk_at dksX4_itemTold_2 19 rfl rfl)
theorem dX4_itemTold_76 : decode cX4_itemTold 76 = .ok (.aload_n 0, 1) := dk_42 (dk_at dksX4_itemTold_2 20 rfl rfl)
theorem dX4_itemTold_77 : decode cX4_itemTold 77 = .ok (.getfield 48, 3) := dk_180 0 48 (dk_at dksX4_itemTold_2 21 rfl rfl)
theorem dX4_itemTold_80 : decode cX4_itemTold 80 = .ok (.getfield 127, 3) := dk_180 0 127 (dk_at dksX4_itemTold_3 0 rfl rfl)
theorem dX4_itemTold_83 : decode cX4_itemTold 83 = .ok (.iload_n 1, 1) := dk_27 (dk_at dksX4_itemTold_3 3 rfl rfl)
theorem dX4_itemTold_84 : decode cX4_itemTold 84 = .ok (.iaload, 1) := dk_46 (dk_at dksX4_itemTold_3 4 rfl rfl)
theorem dX4_itemTold_85 : decode cX4_itemTold 85 = .ok (.ireturn, 1) := dk_172 (dk_at dksX4_itemTold_3 5 rfl rfl)
theorem dX4_itemTold_86 : decode cX4_itemTold 86 = .ok (.aload_n 0, 1) := dk_42 (dk_at dksX4_itemTold_3 6 rfl rfl)
theorem dX4_itemTold_87 : decode cX4_itemTold 87 = .ok (.getfield 48, 3) := dk_180 0 48 (dk_at dksX4_itemTold_3 7 rfl rfl)
theorem dX4_itemTold_90 : decode cX4_itemTold 90 = .ok (.getfield 101, 3) := dk_180 0 101 (dk_at dksX4_itemTold_3 10 rfl rfl)
theorem dX4_itemTold_93 : decode cX4_itemTold 93 = .ok (.iload_n 1, 1) := dk_27 (dk_at dksX4_itemTold_3 13 rfl rfl)
theorem dX4_itemTold_94 : decode cX4_itemTold 94 = .ok (.iaload, 1) := dk_46 (dk_at dksX4_itemTold_3 14 rfl rfl)
theorem dX4_itemTold_95 : decode cX4_itemTold 95 = .ok (.ireturn, 1) := dk_172 (dk_at dksX4_itemTold_3 15 rfl rfl)
theorem dX4_itemTold_96 : decode cX4_itemTold 96 = .ok (.aload_n 0, 1) := dk_42 (dk_at dksX4_itemTold_3 16 rfl rfl)
theorem dX4_itemTold_97 : decode cX4_itemTold 97 = .ok (.getfield 48, 3) := dk_180 0 48 (dk_at dksX4_itemTold_3 17 rfl rfl)
theorem dX4_itemTold_100 : decode cX4_itemTold 100 = .ok (.getfield 111, 3) := dk_180 0 111 (dk_at dksX4_itemTold_3 20 rfl rfl)
theorem dX4_itemTold_103 : decode cX4_itemTold 103 = .ok (.iload_n 1, 1) := dk_27 (dk_at dksX4_itemTold_3 23 rfl rfl)
theorem dX4_itemTold_104 : decode cX4_itemTold 104 = .ok (.iaload, 1) := dk_46 (dk_at dksX4_itemTold_4 0 rfl rfl)
theorem dX4_itemTold_105 : decode cX4_itemTold 105 = .ok (.ireturn, 1) := dk_172 (dk_at dksX4_itemTold_4 1 rfl rfl)
theorem dX4_itemTold_106 : decode cX4_itemTold 106 = .ok (.aload_n 0, 1) := dk_42 (dk_at dksX4_itemTold_4 2 rfl rfl)
theorem dX4_itemTold_107 : decode cX4_itemTold 107 = .ok (.getfield 55, 3) := dk_180 0 55 (dk_at dksX4_itemTold_4 3 rfl rfl)
theorem dX4_itemTold_110 : decode cX4_itemTold 110 = .ok (.iload_n 1, 1) := dk_27 (dk_at dksX4_itemTold_4 6 rfl rfl)
theorem dX4_itemTold_111 : decode cX4_itemTold 111 = .ok (.iaload, 1) := dk_46 (dk_at dksX4_itemTold_4 7 rfl rfl)
theorem dX4_itemTold_112 : decode cX4_itemTold 112 = .ok (.ireturn, 1) := dk_172 (dk_at dksX4_itemTold_4 8 rfl rfl)
theorem dX4_itemTold_113 : decode cX4_itemTold 113 = .ok (.aload_n 0, 1) := dk_42 (dk_at dksX4_itemTold_4 9 rfl rfl)
theorem dX4_itemTold_114 : decode cX4_itemTold 114 = .ok (.getfield 58, 3) := dk_180 0 58 (dk_at dksX4_itemTold_4 10 rfl rfl)
theorem dX4_itemTold_117 : decode cX4_itemTold 117 = .ok (.iload_n 1, 1) := dk_27 (dk_at dksX4_itemTold_4 13 rfl rfl)
theorem dX4_itemTold_118 : decode cX4_itemTold 118 = .ok (.iaload, 1) := dk_46 (dk_at dksX4_itemTold_4 14 rfl rfl)
theorem dX4_itemTold_119 : decode cX4_itemTold 119 = .ok (.ireturn, 1) := dk_172 (dk_at dksX4_itemTold_4 15 rfl rfl)
theorem dX4_itemTold_120 : decode cX4_itemTold 120 = .ok (.aload_n 0, 1) := dk_42 (dk_at dksX4_itemTold_4 16 rfl rfl)
theorem dX4_itemTold_121 : decode cX4_itemTold 121 = .ok (.getfield 48, 3) := dk_180 0 48 (dk_at dksX4_itemTold_4 17 rfl rfl)
theorem dX4_itemTold_124 : decode cX4_itemTold 124 = .ok (.getfield 98, 3) := dk_180 0 98 (dk_at dksX4_itemTold_4 20 rfl rfl)
theorem dX4_itemTold_127 : decode cX4_itemTold 127 = .ok (.iload_n 1, 1) := dk_27 (dk_at dksX4_itemTold_4 23 rfl rfl)
theorem dX4_itemTold_128 : decode cX4_itemTold 128 = .ok (.iaload, 1) := dk_46 (dk_at dksX4_itemTold_5 0 rfl rfl)
theorem dX4_itemTold_129 : decode cX4_itemTold 129 = .ok (.ireturn, 1) := dk_172 (dk_at dksX4_itemTold_5 1 rfl rfl)
theorem dX4_itemTold_130 : decode cX4_itemTold 130 = .ok (.aload_n 0, 1) := dk_42 (dk_at dksX4_itemTold_5 2 rfl rfl)
theorem dX4_itemTold_131 : decode cX4_itemTold 131 = .ok (.getfield 48, 3) := dk_180 0 48 (dk_at dksX4_itemTold_5 3 rfl rfl)
theorem dX4_itemTold_134 : decode cX4_itemTold 134 = .ok (.iload_n 1, 1) := dk_27 (dk_at dksX4_itemTold_5 6 rfl rfl)
theorem dX4_itemTold_135 : decode cX4_itemTold 135 = .ok (.invokevirtual 108, 3) := dk_182 0 108 (dk_at dksX4_itemTold_5 7 rfl rfl)
theorem dX4_itemTold_138 : decode cX4_itemTold 138 = .ok (.ifCond .eq 7, 3) := dk_153 0 7 (dk_at dksX4_itemTold_5 10 rfl rfl)
theorem dX4_itemTold_141 : decode cX4_itemTold 141 = .ok (.iconst 1, 1) := dk_4 (dk_at dksX4_itemTold_5 13 rfl rfl)
theorem dX4_itemTold_142 : decode cX4_itemTold 142 = .ok (.goto 4, 3) := dk_167 0 4 (dk_at dksX4_itemTold_5 14 rfl rfl)
theorem dX4_itemTold_145 : decode cX4_itemTold 145 = .ok (.iconst 0, 1) := dk_3 (dk_at dksX4_itemTold_5 17 rfl rfl)
theorem dX4_itemTold_146 : decode cX4_itemTold 146 = .ok (.ireturn, 1) := dk_172 (dk_at dksX4_itemTold_5 18 rfl rfl)
theorem dX4_itemTold_147 : decode cX4_itemTold 147 = .ok (.aload_n 0, 1) := dk_42 (dk_at dksX4_itemTold_5 19 rfl rfl)
theorem dX4_itemTold_148 : decode cX4_itemTold 148 = .ok (.iload_n 1, 1) := dk_27 (dk_at dksX4_itemTold_5 20 rfl rfl)
theorem dX4_itemTold_149 : decode cX4_itemTold 149 = .ok (.iconst 1, 1) := dk_4 (dk_at dksX4_itemTold_5 21 rfl rfl)
theorem dX4_itemTold_150 : decode cX4_itemTold 150 = .ok (.invokevirtual 346, 3) := dk_182 1 90 (dk_at dksX4_itemTold_6 0 rfl rfl)
theorem dX4_itemTold_153 : decode cX4_itemTold 153 = .ok (.ireturn, 1) := dk_172 (dk_at dksX4_itemTold_6 3 rfl rfl)
theorem dX4_itemTold_154 : decode cX4_itemTold 154 = .ok (.aload_n 0, 1) := dk_42 (dk_at dksX4_itemTold_6 4 rfl rfl)
theorem dX4_itemTold_155 : decode cX4_itemTold 155 = .ok (.iload_n 1, 1) := dk_27 (dk_at dksX4_itemTold_6 5 rfl rfl)
theorem dX4_itemTold_156 : decode cX4_itemTold 156 = .ok (.iconst 2, 1) := dk_5 (dk_at dksX4_itemTold_6 6 rfl rfl)
theorem dX4_itemTold_157 : decode cX4_itemTold 157 = .ok (.invokevirtual 346, 3) := dk_182 1 90 (dk_at dksX4_itemTold_6 7 rfl rfl)
theorem dX4_itemTold_160 : decode cX4_itemTold 160 = .ok (.ireturn, 1) := dk_172 (dk_at dksX4_itemTold_6 10 rfl rfl)
theorem q2769 : (Jvm.Cond.code ({ cls := "DebateHallModel", name := "on", desc := "(II)I" } : Jvm.MethodName) prog_25_method_51_code (5 : Nat) (Option.some Jvm.ClassFile.FieldType.int)) ∈ lw_all := lw_g (lw_at lw_m12 49 rfl) rfl
theorem zk_X4_on : zz_cd yX4_on cX4_on 5 (some .int) none ∈ lw_all := q2769
theorem zy_X4_on : zz_yok yX4_on 2 = true := by decide +kernel
theorem q2766 : (Jvm.Cond.methodLink "DebateHallModel" (346 : Nat) ({ cls := "DebateHallModel", name := "on", desc := "(II)I" } : Jvm.MethodName)) ∈ lw_all := lw_g (lw_at lw_m12 46 rfl) rfl
theorem q2768 : (Jvm.Cond.instanceMethod ({ cls := "DebateHallModel", name := "on", desc := "(II)I" } : Jvm.MethodName)) ∈ lw_all := lw_g (lw_at lw_m12 48 rfl) rfl
theorem q2404 : (Jvm.Cond.fieldLinkNest "DebateHallModel" (101 : Nat) "DebateHallModel$State" "source" "[I" "DebateHallModel") ∈ lw_tbl := lw_at lw_m10 164 rfl
def wp_X4_itemTold_B146 (Z : zzG) (K : Option Value → zzM → Prop) (s0 : Int32) (M : zzM) : Prop := K (some (.int s0)) M
def wp_X4_itemTold (Z : zzG) (this : Option Nat) (p0 : Int32) (p1 : Int32) (M : zzM) (K : Option Value → zzM → Prop) : Prop := if p1 = (0 : Int32) then (zgA Z M this [16] 11 fun x6 => zgA Z M x6 [17] 5 fun x7 => zaI Z M x7 [100] p0 fun x8 => K (some (.int x8)) M) else if p1 = (1 : Int32) then (zgA Z M this [16] 11 fun x9 => zgA Z M x9 [17] 6 fun x10 => zaI Z M x10 [100] p0 fun x11 => K (some (.int x11)) M) else if p1 = (2 : Int32) then (zgA Z M this [16] 11 fun x12 => zgA Z M x12 [17] 7 fun x13 => zaI Z M x13 [100] p0 fun x14 => K (some (.int x14)) M) else if p1 = (3 : Int32) then (zgA Z M this [16] 11 fun x15 => zgA Z M x15 [17] 8 fun x16 => zaI Z M x16 [100] p0 fun x17 => K (some (.int x17)) M) else if p1 = (4 : Int32) then (zgA Z M this [16] 11 fun x18 => zgA Z M x18 [17] 9 fun x19 => zaI Z M x19 [100] p0 fun x20 => K (some (.int x20)) M) else if p1 = (5 : Int32) then (zgA Z M this [16] 13 fun x21 => zaI Z M x21 [100] p0 fun x22 => K (some (.int x22)) M) else if p1 = (6 : Int32) then (zgA Z M this [16] 14 fun x23 => zaI Z M x23 [100] p0 fun x24 => K (some (.int x24)) M) else if p1 = (7 : Int32) then (zgA Z M this [16] 11 fun x25 => zgA Z M x25 [17] 10 fun x26 => zaI Z M x26 [100] p0 fun x27 => K (some (.int x27)) M) else if p1 = (8 : Int32) then (zgA Z M this [16] 11 fun x28 => zty Z M x28 fun t => t = 17 ∧ wp_X5_isStrong Z x28 p0 M (fun r29 M30 => zrI r29 fun x33 => if x33 = 0 then (wp_X4_itemTold_B146 Z K (0 : Int32) M30) else (wp_X4_itemTold_B146 Z K (1 : Int32) M30))) else if p1 = (9 : Int32) then (zty Z M this fun t => t = 16 ∧ wp_X4_on Z this p0 (1 : Int32) M (fun r34 M35 => zrI r34 fun x38 => K (some (.int x38)) M35)) else (zty Z M this fun t => t = 16 ∧ wp_X4_on Z this p0 (2 : Int32) M (fun r1 M2 => zrI r1 fun x5 => K (some (.int x5)) M2))
theorem ok_X4_itemTold_B146 {G : zzX} (C : zz_C G cX4_itemTold "DebateHallModel" 3) {K : Option Value → zzM → Prop} (E : zz_E G (some .int) K (fun _ _ _ => False)) (hH : zz_H G []) (hR : zz_Rm G 2) {s0 : Int32} {M : zzM} {bc bs : Nat} (hw : wp_X4_itemTold_B146 (zz_Zof G) K s0 M) : zz_T G 3 M bc bs 146 [] [.int s0] := by
  unfold wp_X4_itemTold_B146 at hw
  exact zz_iret C E dX4_itemTold_146 hw
theorem ok_X4_itemTold {Z : zzG} {l : Launch} (hl : l.stackTraces = false) {this : Option Nat} {p0 : Int32} {p1 : Int32} {M : zzM} {mc ms : Nat} {K : Option Value → zzM → Prop} (hw : wp_X4_itemTold Z this p0 p1 M K) : zz_Met Z l yX4_itemTold (zz_ws yX4_itemTold cX4_itemTold 3 (some .int) none) 2 [va_rf this, .int p0, .int p1] M mc ms K (fun _ _ _ => False) := by
  refine zz_ofW hl (plainFor_of_name (by decide)) (by simp only [zz_sl0, zz_slI, zz_slJ, zz_slA] <;> decide) (fun G hZ hll C E hH hR hin => ?_)
  subst hZ
  subst hll
  rw [show lv_args 0 [va_rf this, .int p0, .int p1] = [(0, va_rf this), (1, .int p0), (2, .int p1)] by simp only [zz_la0, zz_laI, zz_laJ, zz_laA]]
  unfold wp_X4_itemTold at hw
  refine zz_iload_n C dX4_itemTold_0 rfl 2 rfl ?_
  by_cases e0 : p1 = (0 : Int32)
  · replace hw := zz_ifp e0 hw
    refine zz_tin (j := 0) (off := 55) (tgt := 56) C dX4_itemTold_1 e0 (by decide) (by decide) (by decide) rfl (by decide) ?_
    refine zz_aload_n C dX4_itemTold_56 rfl 0 rfl ?_
    refine zz_getA C dX4_itemTold_57 (Or.inl q2447) zf_16_11_ebateHallModel hw (fun x6 hw => ?_)
    refine zz_getA C dX4_itemTold_60 (Or.inr ⟨_, q2398⟩) zf_17_5_allModel_State hw (fun x7 hw => ?_)
    refine zz_iload_n C dX4_itemTold_63 rfl 1 rfl ?_
    refine zz_iald C dX4_itemTold_64 hw (fun x8 hw => ?_)
    exact zz_iret C E dX4_itemTold_65 hw
  · replace hw := zz_ifn e0 hw
    by_cases e1 : p1 = (1 : Int32)
    · replace hw := zz_ifp e1 hw
      refine zz_tin (j := 1) (off := 65) (tgt := 66) C dX4_itemTold_1 e1 (by decide) (by decide) (by decide) rfl (by decide) ?_
      refine zz_aload_n C dX4_itemTold_66 rfl 0 rfl ?_
      refine zz_getA C dX4_itemTold_67 (Or.inl q2447) zf_16_11_ebateHallModel hw (fun x9 hw => ?_)
      refine zz_getA C dX4_itemTold_70 (Or.inr ⟨_, q2400⟩) zf_17_6_allModel_State hw (fun x10 hw => ?_)
      refine zz_iload_n C dX4_itemTold_73 rfl 1 rfl ?_
      refine zz_iald C dX4_itemTold_74 hw (fun x11 hw => ?_)
      exact zz_iret C E dX4_itemTold_75 hw
    · replace hw := zz_ifn e1 hw
      by_cases e2 : p1 = (2 : Int32)
      · replace hw := zz_ifp e2 hw
        refine zz_tin (j := 2) (off := 75) (tgt := 76) C dX4_itemTold_1 e2 (by decide) (by decide) (by decide) rfl (by decide) ?_
        refine zz_aload_n C dX4_itemTold_76 rfl 0 rfl ?_
        refine zz_getA C dX4_itemTold_77 (Or.inl q2447) zf_16_11_ebateHallModel hw (fun x12 hw => ?_)
        refine zz_getA C dX4_itemTold_80 (Or.inr ⟨_, q2402⟩) zf_17_7_allModel_State hw (fun x13 hw => ?_)
        refine zz_iload_n C dX4_itemTold_83 rfl 1 rfl ?_
        refine zz_iald C dX4_itemTold_84 hw (fun x14 hw => ?_)
        exact zz_iret C E dX4_itemTold_85 hw
      · replace hw := zz_ifn e2 hw
        by_cases e3 : p1 = (3 : Int32)
        · replace hw := zz_ifp e3 hw
          refine zz_tin (j := 3) (off := 85) (tgt := 86) C dX4_itemTold_1 e3 (by decide) (by decide) (by decide) rfl (by decide) ?_
          refine zz_aload_n C dX4_itemTold_86 rfl 0 rfl ?_
          refine zz_getA C dX4_itemTold_87 (Or.inl q2447) zf_16_11_ebateHallModel hw (fun x15 hw => ?_)
          refine zz_getA C dX4_itemTold_90 (Or.inr ⟨_, q2404⟩) zf_17_8_allModel_State hw (fun x16 hw => ?_)
          refine zz_iload_n C dX4_itemTold_93 rfl 1 rfl ?_
          refine zz_iald C dX4_itemTold_94 hw (fun x17 hw => ?_)
          exact zz_iret C E dX4_itemTold_95 hw
        · replace hw := zz_ifn e3 hw
          by_cases e4 : p1 = (4 : Int32)
          · replace hw := zz_ifp e4 hw
            refine zz_tin (j := 4) (off := 95) (tgt := 96) C dX4_itemTold_1 e4 (by decide) (by decide) (by decide) rfl (by decide) ?_
            refine zz_aload_n C dX4_itemTold_96 rfl 0 rfl ?_
            refine zz_getA C dX4_itemTold_97 (Or.inl q2447) zf_16_11_ebateHallModel hw (fun x18 hw => ?_)
            refine zz_getA C dX4_itemTold_100 (Or.inr ⟨_, q2406⟩) zf_17_9_allModel_State hw (fun x19 hw => ?_)
            refine zz_iload_n C dX4_itemTold_103 rfl 1 rfl ?_
            refine zz_iald C dX4_itemTold_104 hw (fun x20 hw => ?_)
            exact zz_iret C E dX4_itemTold_105 hw
          · replace hw := zz_ifn e4 hw
            by_cases e5 : p1 = (5 : Int32)
            · replace hw := zz_ifp e5 hw
              refine zz_tin (j := 5) (off := 105) (tgt := 106) C dX4_itemTold_1 e5 (by decide) (by decide) (by decide) rfl (by decide) ?_
              refine zz_aload_n C dX4_itemTold_106 rfl 0 rfl ?_
              refine zz_getA C dX4_itemTold_107 (Or.inl q2449) zf_16_13_ebateHallModel hw (fun x21 hw => ?_)
              refine zz_iload_n C dX4_itemTold_110 rfl 1 rfl ?_
              refine zz_iald C dX4_itemTold_111 hw (fun x22 hw => ?_)
              exact zz_iret C E dX4_itemTold_112 hw
            · replace hw := zz_ifn e5 hw
              by_cases e6 : p1 = (6 : Int32)
              · replace hw := zz_ifp e6 hw
                refine zz_tin (j := 6) (off := 112) (tgt := 113) C dX4_itemTold_1 e6 (by decide) (by decide) (by decide) rfl (by decide) ?_
                refine zz_aload_n C dX4_itemTold_113 rfl 0 rfl ?_
                refine zz_getA C dX4_itemTold_114 (Or.inl q2450) zf_16_14_ebateHallModel hw (fun x23 hw => ?_)
                refine zz_iload_n C dX4_itemTold_117 rfl 1 rfl ?_
                refine zz_iald C dX4_itemTold_118 hw (fun x24 hw => ?_)
                exact zz_iret C E dX4_itemTold_119 hw
              · replace hw := zz_ifn e6 hw
                by_cases e7 : p1 = (7 : Int32)
                · replace hw := zz_ifp e7 hw
                  refine zz_tin (j := 7) (off := 119) (tgt := 120) C dX4_itemTold_1 e7 (by decide) (by decide) (by decide) rfl (by decide) ?_
                  refine zz_aload_n C dX4_itemTold_120 rfl 0 rfl ?_
                  refine zz_getA C dX4_itemTold_121 (Or.inl q2447) zf_16_11_ebateHallModel hw (fun x25 hw => ?_)
                  refine zz_getA C dX4_itemTold_124 (Or.inr ⟨_, q2408⟩) zf_17_10_allModel_State hw (fun x26 hw => ?_)
                  refine zz_iload_n C dX4_itemTold_127 rfl 1 rfl ?_
                  refine zz_iald C dX4_itemTold_128 hw (fun x27 hw => ?_)
                  exact zz_iret C E dX4_itemTold_129 hw
                · replace hw := zz_ifn e7 hw
                  by_cases e8 : p1 = (8 : Int32)
                  · replace hw := zz_ifp e8 hw
                    refine zz_tin (j := 8) (off := 129) (tgt := 130) C dX4_itemTold_1 e8 (by decide) (by decide) (by decide) rfl (by decide) ?_
                    refine zz_aload_n C dX4_itemTold_130 rfl 0 rfl ?_
                    refine zz_getA C dX4_itemTold_131 (Or.inl q2447) zf_16_11_ebateHallModel hw (fun x28 hw => ?_)
                    refine zz_iload_n C dX4_itemTold_134 rfl 1 rfl ?_
                    obtain ⟨a9, t9, b9, fs9, hro, hL, rfl, hw⟩ := ztyS hw
                    refine zz_callV (r := (zR_17, zT_17, 12)) (As := [.int p0]) (rest := []) (mc := 0) (ms := 0) C hR hro dX4_itemTold_135 (Or.inl q2692) q2693 (Or.inl q2694) zl_DebateHallModel_State zk_X5_isStrong (Or.inl rfl) zy_X5_isStrong rfl (by decide) (by decide) hL (ok_X5_isStrong (zz_hl C) hw) (Nat.zero_le _) (Nat.zero_le _) (zz_cat10 _ (Nat.le_of_ble_eq_true rfl)) (fun r29 M30 hw => zz_kI hw (fun x33 hw => ?_)) (fun _ _ _ h9 => h9.elim) rfl
                    refine zz_if_eq (tgt := 145) C dX4_itemTold_138 (by decide) hw (fun hw => ?_) (fun hw => ?_)
                    · refine zz_iconst (v := (0 : Int32)) C dX4_itemTold_145 (by decide) ?_
                      refine zz_subP [] rfl ?_
                      exact ok_X4_itemTold_B146 C E hH hR hw
                    · refine zz_iconst (v := (1 : Int32)) C dX4_itemTold_141 (by decide) ?_
                      refine zz_goto (tgt := 146) C dX4_itemTold_142 (by decide) ?_
                      refine zz_subP [] rfl ?_
                      exact ok_X4_itemTold_B146 C E hH hR hw
                  · replace hw := zz_ifn e8 hw
                    by_cases e9 : p1 = (9 : Int32)
                    · replace hw := zz_ifp e9 hw
                      refine zz_tin (j := 9) (off := 146) (tgt := 147) C dX4_itemTold_1 e9 (by decide) (by decide) (by decide) rfl (by decide) ?_
                      refine zz_aload_n C dX4_itemTold_147 rfl 0 rfl ?_
                      refine zz_iload_n C dX4_itemTold_148 rfl 1 rfl ?_
                      refine zz_iconst (v := (1 : Int32)) C dX4_itemTold_149 (by decide) ?_
                      obtain ⟨a9, t9, b9, fs9, hro, hL, rfl, hw⟩ := ztyS hw
                      refine zz_callV (r := (zR_16, zT_16, 24)) (As := [.int p0, .int (1 : Int32)]) (rest := []) (mc := 0) (ms := 0) C hR hro dX4_itemTold_150 (Or.inl q2766) q2768 (Or.inl qs71) zl_DebateHallModel zk_X4_on (Or.inl rfl) zy_X4_on rfl (by decide) (by decide) hL (ok_X4_on (zz_hl C) hw) (Nat.zero_le _) (Nat.zero_le _) (zz_cat10 _ (Nat.le_of_ble_eq_true rfl)) (fun r34 M35 hw => zz_kI hw (fun x38 hw => ?_)) (fun _ _ _ h9 => h9.elim) rfl
                      exact zz_iret C E dX4_itemTold_153 hw
                    · replace hw := zz_ifn e9 hw
                      refine zz_tout (tgt := 154) C dX4_itemTold_1 (by decide) (by decide) (fun j hj => ?_) ?_
                      · match j, hj with
                        | 0, _ => exact Or.inl (zz_ne e0 (by decide))
                        | 1, _ => exact Or.inl (zz_ne e1 (by decide))
                        | 2, _ => exact Or.inl (zz_ne e2 (by decide))
                        | 3, _ => exact Or.inl (zz_ne e3 (by decide))
                        | 4, _ => exact Or.inl (zz_ne e4 (by decide))
                        | 5, _ => exact Or.inl (zz_ne e5 (by decide))
                        | 6, _ => exact Or.inl (zz_ne e6 (by decide))
                        | 7, _ => exact Or.inl (zz_ne e7 (by decide))
                        | 8, _ => exact Or.inl (zz_ne e8 (by decide))
                        | 9, _ => exact Or.inl (zz_ne e9 (by decide))
                        | n + 10, hj => exact absurd hj (Nat.not_lt.mpr (Nat.le_add_left _ _))
                      · refine zz_aload_n C dX4_itemTold_154 rfl 0 rfl ?_
                        refine zz_iload_n C dX4_itemTold_155 rfl 1 rfl ?_
                        refine zz_iconst (v := (2 : Int32)) C dX4_itemTold_156 (by decide) ?_
                        obtain ⟨a9, t9, b9, fs9, hro, hL, rfl, hw⟩ := ztyS hw
                        refine zz_callV (r := (zR_16, zT_16, 24)) (As := [.int p0, .int (2 : Int32)]) (rest := []) (mc := 0) (ms := 0) C hR hro dX4_itemTold_157 (Or.inl q2766) q2768 (Or.inl qs71) zl_DebateHallModel zk_X4_on (Or.inl rfl) zy_X4_on rfl (by decide) (by decide) hL (ok_X4_on (zz_hl C) hw) (Nat.zero_le _) (Nat.zero_le _) (zz_cat10 _ (Nat.le_of_ble_eq_true rfl)) (fun r1 M2 hw => zz_kI hw (fun x5 hw => ?_)) (fun _ _ _ h9 => h9.elim) rfl
                        exact zz_iret C E dX4_itemTold_160 hw
abbrev cX4_whyOf : ByteArray := prog_25_method_55_code
def yX4_whyOf : MethodName := ⟨"DebateHallModel", "whyOf", "(I)I"⟩
def dkwX4_whyOf_3 : List UInt8 := [180, 0, 48, 180, 0, 98, 27, 46, 4, 160, 0, 8, 16, 254, 167, 0, 5, 16, 253, 172]
abbrev dktX4_whyOf_3 : List UInt8 := dkwX4_whyOf_3 ++ []
def dkwX4_whyOf_2 : List UInt8 := [42, 180, 0, 48, 180, 0, 111, 28, 46, 27, 160, 0, 5, 28, 172, 132, 2, 1, 167, 255, 206, 42]
abbrev dktX4_whyOf_2 : List UInt8 := dkwX4_whyOf_2 ++ dktX4_whyOf_3
def dkwX4_whyOf_1 : List UInt8 := [162, 0, 45, 42, 180, 0, 55, 28, 46, 4, 160, 0, 29, 42, 180, 0, 48, 28, 182, 0, 108, 153, 0, 18]
abbrev dktX4_whyOf_1 : List UInt8 := dkwX4_whyOf_1 ++ dktX4_whyOf_2
def dkwX4_whyOf_0 : List UInt8 := [42, 180, 0, 55, 27, 46, 5, 159, 0, 5, 2, 172, 3, 61, 28, 42, 180, 0, 48, 180, 0, 95]
abbrev dktX4_whyOf_0 : List UInt8 := dkwX4_whyOf_0 ++ dktX4_whyOf_1
theorem dksX4_whyOf_0 : cX4_whyOf.data.toList.drop 0 = dktX4_whyOf_0 := by decide +kernel
theorem dksX4_whyOf_1 : cX4_whyOf.data.toList.drop 22 = dktX4_whyOf_1 := dk_seg dksX4_whyOf_0 22 rfl rfl
theorem dksX4_whyOf_2 : cX4_whyOf.data.toList.drop 46 = dktX4_whyOf_2 := dk_seg dksX4_whyOf_1 24 rfl rfl
theorem dksX4_whyOf_3 : cX4_whyOf.data.toList.drop 68 = dktX4_whyOf_3 := dk_seg dksX4_whyOf_2 22 rfl rfl
theorem dX4_whyOf_0 : decode cX4_whyOf 0 = .ok (.aload_n 0, 1) := dk_42 (dk_at dksX4_whyOf_0 0 rfl rfl)
theorem dX4_whyOf_1 : decode cX4_whyOf 1 = .ok (.getfield 55, 3) := dk_180 0 55 (dk_at dksX4_whyOf_0 1 rfl rfl)
theorem dX4_whyOf_4 : decode cX4_whyOf 4 = .ok (.iload_n 1, 1) := dk_27 (dk_at dksX4_whyOf_0 4 rfl rfl)
theorem dX4_whyOf_5 : decode cX4_whyOf 5 = .ok (.iaload, 1) := dk_46 (dk_at dksX4_whyOf_0 5 rfl rfl)
theorem dX4_whyOf_6 : decode cX4_whyOf 6 = .ok (.iconst 2, 1) := dk_5 (dk_at dksX4_whyOf_0 6 rfl rfl)
theorem dX4_whyOf_7 : decode cX4_whyOf 7 = .ok (.if_icmp .eq 5, 3) := dk_159 0 5 (dk_at dksX4_whyOf_0 7 rfl rfl)
theorem dX4_whyOf_10 : decode cX4_whyOf 10 = .ok (.iconst (-1), 1) := dk_2 (dk_at dksX4_whyOf_0 10 rfl rfl)
theorem dX4_whyOf_11 : decode cX4_whyOf 11 = .ok (.ireturn, 1) := dk_172 (dk_at dksX4_whyOf_0 11 rfl rfl)
theorem dX4_whyOf_12 : decode cX4_whyOf 12 = .ok (.iconst 0, 1) := dk_3 (dk_at dksX4_whyOf_0 12 rfl rfl)
theorem dX4_whyOf_13 : decode cX4_whyOf 13 = .ok (.istore_n 2, 1) := dk_61 (dk_at dksX4_whyOf_0 13 rfl rfl)
theorem dX4_whyOf_14 : decode cX4_whyOf 14 = .ok (.iload_n 2, 1) := dk_28 (dk_at dksX4_whyOf_0 14 rfl rfl)
theorem dX4_whyOf_15 : decode cX4_whyOf 15 = .ok (.aload_n 0, 1) := dk_42 (dk_at dksX4_whyOf_0 15 rfl rfl)
theorem dX4_whyOf_16 : decode cX4_whyOf 16 = .ok (.getfield 48, 3) := dk_180 0 48 (dk_at dksX4_whyOf_0 16 rfl rfl)
theorem dX4_whyOf_19 : decode cX4_whyOf 19 = .ok (.getfield 95, 3) := dk_180 0 95 (dk_at dksX4_whyOf_0 19 rfl rfl)
theorem dX4_whyOf_22 : decode cX4_whyOf 22 = .ok (.if_icmp .ge 45, 3) := dk_162 0 45 (dk_at dksX4_whyOf_1 0 rfl rfl)
theorem dX4_whyOf_25 : decode cX4_whyOf 25 = .ok (.aload_n 0, 1) := dk_42 (dk_at dksX4_whyOf_1 3 rfl rfl)
theorem dX4_whyOf_26 : decode cX4_whyOf 26 = .ok (.getfield 55, 3) := dk_180 0 55 (dk_at dksX4_whyOf_1 4 rfl rfl)
theorem dX4_whyOf_29 : decode cX4_whyOf 29 = .ok (.iload_n 2, 1) := dk_28 (dk_at dksX4_whyOf_1 7 rfl rfl)
theorem dX4_whyOf_30 : decode cX4_whyOf 30 = .ok (.iaload, 1) := dk_46 (dk_at dksX4_whyOf_1 8 rfl rfl)
theorem dX4_whyOf_31 : decode cX4_whyOf 31 = .ok (.iconst 1, 1) := dk_4 (dk_at dksX4_whyOf_1 9 rfl rfl)
theorem dX4_whyOf_32 : decode cX4_whyOf 32 = .ok (.if_icmp .ne 29, 3) := dk_160 0 29 (dk_at dksX4_whyOf_1 10 rfl rfl)
theorem dX4_whyOf_35 : decode cX4_whyOf 35 = .ok (.aload_n 0, 1) := dk_42 (dk_at dksX4_whyOf_1 13 rfl rfl)
theorem dX4_whyOf_36 : decode cX4_whyOf 36 = .ok (.getfield 48, 3) := dk_180 0 48 (dk_at dksX4_whyOf_1 14 rfl rfl)
theorem dX4_whyOf_39 : decode cX4_whyOf 39 = .ok (.iload_n 2, 1) := dk_28 (dk_at dksX4_whyOf_1 17 rfl rfl)
theorem dX4_whyOf_40 : decode cX4_whyOf 40 = .ok (.invokevirtual 108, 3) := dk_182 0 108 (dk_at dksX4_whyOf_1 18 rfl rfl)
theorem dX4_whyOf_43 : decode cX4_whyOf 43 = .ok (.ifCond .eq 18, 3) := dk_153 0 18 (dk_at dksX4_whyOf_1 21 rfl rfl)
theorem dX4_whyOf_46 : decode cX4_whyOf 46 = .ok (.aload_n 0, 1) := dk_42 (dk_at dksX4_whyOf_2 0 rfl rfl)
theorem dX4_whyOf_47 : decode cX4_whyOf 47 = .ok (.getfield 48, 3) := dk_180 0 48 (dk_at dksX4_whyOf_2 1 rfl rfl)
theorem dX4_whyOf_50 : decode cX4_whyOf 50 = .ok (.getfield 111, 3) := dk_180 0 111 (dk_at dksX4_whyOf_2 4 rfl rfl)
theorem dX4_whyOf_53 : decode cX4_whyOf 53 = .ok (.iload_n 2, 1) := dk_28 (dk_at dksX4_whyOf_2 7 rfl rfl)
theorem dX4_whyOf_54 : decode cX4_whyOf 54 = .ok (.iaload, 1) := dk_46 (dk_at dksX4_whyOf_2 8 rfl rfl)
theorem dX4_whyOf_55 : decode cX4_whyOf 55 = .ok (.iload_n 1, 1) := dk_27 (dk_at dksX4_whyOf_2 9 rfl rfl)
theorem dX4_whyOf_56 : decode cX4_whyOf 56 = .ok (.if_icmp .ne 5, 3) := dk_160 0 5 (dk_at dksX4_whyOf_2 10 rfl rfl)
theorem dX4_whyOf_59 : decode cX4_whyOf 59 = .ok (.iload_n 2, 1) := dk_28 (dk_at dksX4_whyOf_2 13 rfl rfl)
theorem dX4_whyOf_60 : decode cX4_whyOf 60 = .ok (.ireturn, 1) := dk_172 (dk_at dksX4_whyOf_2 14 rfl rfl)
theorem dX4_whyOf_61 : decode cX4_whyOf 61 = .ok (.iinc 2 1, 3) := dk_132 2 1 (dk_at dksX4_whyOf_2 15 rfl rfl)
theorem dX4_whyOf_64 : decode cX4_whyOf 64 = .ok (.goto (-50), 3) := dk_167 255 206 (dk_at dksX4_whyOf_2 18 rfl rfl)
theorem dX4_whyOf_67 : decode cX4_whyOf 67 = .ok (.aload_n 0, 1) := dk_42 (dk_at dksX4_whyOf_2 21 rfl rfl)
theorem dX4_whyOf_68 : decode cX4_whyOf 68 = .ok (.getfield 48, 3) := dk_180 0 48 (dk_at dksX4_whyOf_3 0 rfl rfl)
theorem dX4_whyOf_71 : decode cX4_whyOf 71 = .ok (.getfield 98, 3) := dk_180 0 98 (dk_at dksX4_whyOf_3 3 rfl rfl)
theorem dX4_whyOf_74 : decode cX4_whyOf 74 = .ok (.iload_n 1, 1) := dk_27 (dk_at dksX4_whyOf_3 6 rfl rfl)
theorem dX4_whyOf_75 : decode cX4_whyOf 75 = .ok (.iaload, 1) := dk_46 (dk_at dksX4_whyOf_3 7 rfl rfl)
theorem dX4_whyOf_76 : decode cX4_whyOf 76 = .ok (.iconst 1, 1) := dk_4 (dk_at dksX4_whyOf_3 8 rfl rfl)
theorem dX4_whyOf_77 : decode cX4_whyOf 77 = .ok (.if_icmp .ne 8, 3) := dk_160 0 8 (dk_at dksX4_whyOf_3 9 rfl rfl)
theorem dX4_whyOf_80 : decode cX4_whyOf 80 = .ok (.bipush (-2), 2) := dk_16 254 (dk_at dksX4_whyOf_3 12 rfl rfl)
theorem dX4_whyOf_82 : decode cX4_whyOf 82 = .ok (.goto 5, 3) := dk_167 0 5 (dk_at dksX4_whyOf_3 14 rfl rfl)
theorem dX4_whyOf_85 : decode cX4_whyOf 85 = .ok (.bipush (-3), 2) := dk_16 253 (dk_at dksX4_whyOf_3 17 rfl rfl)
theorem dX4_whyOf_87 : decode cX4_whyOf 87 = .ok (.ireturn, 1) := dk_172 (dk_at dksX4_whyOf_3 19 rfl rfl)
def wp_X4_whyOf_B61 (Z : zzG) (k14 : Option Nat → Int32 → Int32 → zzM → Prop) (K : Option Value → zzM → Prop) (v0 : Option Nat) (v1 : Int32) (v2 : Int32) (M : zzM) : Prop := k14 v0 v1 (v2 + 1) M
def wp_X4_whyOf_B87 (Z : zzG) (K : Option Value → zzM → Prop) (s0 : Int32) (M : zzM) : Prop := K (some (.int s0)) M
def wp_X4_whyOf_L14 (Z : zzG) (K : Option Value → zzM → Prop) : Nat → Option Nat → Int32 → Int32 → zzM → Prop
  | 0, _, _, _, _ => False
  | n + 1, v0, v1, v2, M => zgA Z M v0 [16] 11 fun x3 => zgI Z M x3 [17] 3 fun x4 => if x4 ≤ v2 then (zgA Z M v0 [16] 11 fun x5 => zgA Z M x5 [17] 10 fun x6 => zaI Z M x6 [100] v1 fun x7 => if x7 = (1 : Int32) then (wp_X4_whyOf_B87 Z K (-2 : Int32) M) else (wp_X4_whyOf_B87 Z K (-3 : Int32) M)) else (zgA Z M v0 [16] 13 fun x8 => zaI Z M x8 [100] v2 fun x9 => if x9 = (1 : Int32) then (zgA Z M v0 [16] 11 fun x10 => zty Z M x10 fun t => t = 17 ∧ wp_X5_isStrong Z x10 v2 M (fun r11 M12 => zrI r11 fun x15 => if x15 = 0 then (wp_X4_whyOf_B61 Z (wp_X4_whyOf_L14 Z K n) K v0 v1 v2 M12) else (zgA Z M12 v0 [16] 11 fun x16 => zgA Z M12 x16 [17] 9 fun x17 => zaI Z M12 x17 [100] v2 fun x18 => if x18 = v1 then (K (some (.int v2)) M12) else (wp_X4_whyOf_B61 Z (wp_X4_whyOf_L14 Z K n) K v0 v1 v2 M12)))) else (wp_X4_whyOf_B61 Z (wp_X4_whyOf_L14 Z K n) K v0 v1 v2 M))
def wp_X4_whyOf (Z : zzG) (this : Option Nat) (p0 : Int32) (M : zzM) (K : Option Value → zzM → Prop) : Prop := zgA Z M this [16] 13 fun x1 => zaI Z M x1 [100] p0 fun x2 => if x2 = (2 : Int32) then (∃ n14 : Nat, wp_X4_whyOf_L14 Z K n14 this p0 (0 : Int32) M) else (K (some (.int (-1 : Int32))) M)
theorem ok_X4_whyOf_B61 {G : zzX} (C : zz_C G cX4_whyOf "DebateHallModel" 3) {K : Option Value → zzM → Prop} (E : zz_E G (some .int) K (fun _ _ _ => False)) (hH : zz_H G []) (hR : zz_Rm G 2) {k14 : Option Nat → Int32 → Int32 → zzM → Prop} (hk14 : ∀ (z0 : Option Nat) (z1 : Int32) (z2 : Int32) (M : zzM) (bc bs : Nat), k14 z0 z1 z2 M → zz_T G 3 M bc bs 14 [(0, va_rf z0), (1, .int z1), (2, .int z2)] []) {v0 : Option Nat} {v1 : Int32} {v2 : Int32} {M : zzM} {bc bs : Nat} (hw : wp_X4_whyOf_B61 (zz_Zof G) k14 K v0 v1 v2 M) : zz_T G 3 M bc bs 61 [(0, va_rf v0), (1, .int v1), (2, .int v2)] [] := by
  unfold wp_X4_whyOf_B61 at hw
  refine zz_iinc (lv' := [(2, .int (v2 + 1)), (0, va_rf v0), (1, .int v1)]) C dX4_whyOf_61 2 rfl (by rfl) (by decide) rfl ?_
  refine zz_goto (tgt := 14) C dX4_whyOf_64 (by decide) ?_
  refine zz_subP [1, 2, 0] rfl ?_
  exact hk14 _ _ _ _ _ _ hw
theorem ok_X4_whyOf_B87 {G : zzX} (C : zz_C G cX4_whyOf "DebateHallModel" 3) {K : Option Value → zzM → Prop} (E : zz_E G (some .int) K (fun _ _ _ => False)) (hH : zz_H G []) (hR : zz_Rm G 2) {s0 : Int32} {M : zzM} {bc bs : Nat} (hw : wp_X4_whyOf_B87 (zz_Zof G) K s0 M) : zz_T G 3 M bc bs 87 [] [.int s0] := by
  unfold wp_X4_whyOf_B87 at hw
  exact zz_iret C E dX4_whyOf_87 hw
theorem ok_X4_whyOf_L14 {G : zzX} (C : zz_C G cX4_whyOf "DebateHallModel" 3) {K : Option Value → zzM → Prop} (E : zz_E G (some .int) K (fun _ _ _ => False)) (hH : zz_H G []) (hR : zz_Rm G 2) : ∀ (n : Nat) (v0 : Option Nat) (v1 : Int32) (v2 : Int32) (M : zzM) (bc bs : Nat), wp_X4_whyOf_L14 (zz_Zof G) K n v0 v1 v2 M → zz_T G 3 M bc bs 14 [(0, va_rf v0), (1, .int v1), (2, .int v2)] [] := by
  intro n
  induction n with
  | zero =>
    intro v0 v1 v2 M bc bs hw
    exact False.elim hw
  | succ n ih =>
    intro v0 v1 v2 M bc bs hw
    refine zz_iload_n C dX4_whyOf_14 rfl 2 rfl ?_
    refine zz_aload_n C dX4_whyOf_15 rfl 0 rfl ?_
    refine zz_getA C dX4_whyOf_16 (Or.inl q2447) zf_16_11_ebateHallModel hw (fun x3 hw => ?_)
    refine zz_getI C dX4_whyOf_19 (Or.inr ⟨_, q2394⟩) zf_17_3_allModel_State hw (fun x4 hw => ?_)
    refine zz_icmp_ge (tgt := 67) C dX4_whyOf_22 (by decide) hw (fun hw => ?_) (fun hw => ?_)
    · refine zz_aload_n C dX4_whyOf_67 rfl 0 rfl ?_
      refine zz_getA C dX4_whyOf_68 (Or.inl q2447) zf_16_11_ebateHallModel hw (fun x5 hw => ?_)
      refine zz_getA C dX4_whyOf_71 (Or.inr ⟨_, q2408⟩) zf_17_10_allModel_State hw (fun x6 hw => ?_)
      refine zz_iload_n C dX4_whyOf_74 rfl 1 rfl ?_
      refine zz_iald C dX4_whyOf_75 hw (fun x7 hw => ?_)
      refine zz_iconst (v := (1 : Int32)) C dX4_whyOf_76 (by decide) ?_
      refine zz_icmp_ne (tgt := 85) C dX4_whyOf_77 (by decide) hw (fun hw => ?_) (fun hw => ?_)
      · refine zz_bipush (v := (-3 : Int32)) C dX4_whyOf_85 (by decide) ?_
        refine zz_subP [] rfl ?_
        exact ok_X4_whyOf_B87 C E hH hR hw
      · refine zz_bipush (v := (-2 : Int32)) C dX4_whyOf_80 (by decide) ?_
        refine zz_goto (tgt := 87) C dX4_whyOf_82 (by decide) ?_
        refine zz_subP [] rfl ?_
        exact ok_X4_whyOf_B87 C E hH hR hw
    · refine zz_aload_n C dX4_whyOf_25 rfl 0 rfl ?_
      refine zz_getA C dX4_whyOf_26 (Or.inl q2449) zf_16_13_ebateHallModel hw (fun x8 hw => ?_)
      refine zz_iload_n C dX4_whyOf_29 rfl 2 rfl ?_
      refine zz_iald C dX4_whyOf_30 hw (fun x9 hw => ?_)
      refine zz_iconst (v := (1 : Int32)) C dX4_whyOf_31 (by decide) ?_
      refine zz_icmp_ne (tgt := 61) C dX4_whyOf_32 (by decide) hw (fun hw => ?_) (fun hw => ?_)
      · refine zz_subP [0, 1, 2] rfl ?_
        exact ok_X4_whyOf_B61 C E hH hR (fun z0 z1 z2 z3 z4 z5 hw => ih z0 z1 z2 z3 z4 z5 hw) hw
      · refine zz_aload_n C dX4_whyOf_35 rfl 0 rfl ?_
        refine zz_getA C dX4_whyOf_36 (Or.inl q2447) zf_16_11_ebateHallModel hw (fun x10 hw => ?_)
        refine zz_iload_n C dX4_whyOf_39 rfl 2 rfl ?_
        obtain ⟨a9, t9, b9, fs9, hro, hL, rfl, hw⟩ := ztyS hw
        refine zz_callV (r := (zR_17, zT_17, 12)) (As := [.int v2]) (rest := []) (mc := 0) (ms := 0) C hR hro dX4_whyOf_40 (Or.inl q2692) q2693 (Or.inl q2694) zl_DebateHallModel_State zk_X5_isStrong (Or.inl rfl) zy_X5_isStrong rfl (by decide) (by decide) hL (ok_X5_isStrong (zz_hl C) hw) (Nat.zero_le _) (Nat.zero_le _) (zz_cat10 _ (Nat.le_of_ble_eq_true rfl)) (fun r11 M12 hw => zz_kI hw (fun x15 hw => ?_)) (fun _ _ _ h9 => h9.elim) rfl
        refine zz_if_eq (tgt := 61) C dX4_whyOf_43 (by decide) hw (fun hw => ?_) (fun hw => ?_)
        · refine zz_subP [0, 1, 2] rfl ?_
          exact ok_X4_whyOf_B61 C E hH hR (fun z0 z1 z2 z3 z4 z5 hw => ih z0 z1 z2 z3 z4 z5 hw) hw
        · refine zz_aload_n C dX4_whyOf_46 rfl 0 rfl ?_
          refine zz_getA C dX4_whyOf_47 (Or.inl q2447) zf_16_11_ebateHallModel hw (fun x16 hw => ?_)
          refine zz_getA C dX4_whyOf_50 (Or.inr ⟨_, q2406⟩) zf_17_9_allModel_State hw (fun x17 hw => ?_)
          refine zz_iload_n C dX4_whyOf_53 rfl 2 rfl ?_
          refine zz_iald C dX4_whyOf_54 hw (fun x18 hw => ?_)
          refine zz_iload_n C dX4_whyOf_55 rfl 1 rfl ?_
          refine zz_icmp_ne (tgt := 61) C dX4_whyOf_56 (by decide) hw (fun hw => ?_) (fun hw => ?_)
          · refine zz_subP [0, 1, 2] rfl ?_
            exact ok_X4_whyOf_B61 C E hH hR (fun z0 z1 z2 z3 z4 z5 hw => ih z0 z1 z2 z3 z4 z5 hw) hw
          · refine zz_iload_n C dX4_whyOf_59 rfl 2 rfl ?_
            exact zz_iret C E dX4_whyOf_60 hw
theorem ok_X4_whyOf {Z : zzG} {l : Launch} (hl : l.stackTraces = false) {this : Option Nat} {p0 : Int32} {M : zzM} {mc ms : Nat} {K : Option Value → zzM → Prop} (hw : wp_X4_whyOf Z this p0 M K) : zz_Met Z l yX4_whyOf (zz_ws yX4_whyOf cX4_whyOf 3 (some .int) none) 2 [va_rf this, .int p0] M mc ms K (fun _ _ _ => False) := by
  refine zz_ofW hl (plainFor_of_name (by decide)) (by simp only [zz_sl0, zz_slI, zz_slJ, zz_slA] <;> decide) (fun G hZ hll C E hH hR hin => ?_)
  subst hZ
  subst hll
  rw [show lv_args 0 [va_rf this, .int p0] = [(0, va_rf this), (1, .int p0)] by simp only [zz_la0, zz_laI, zz_laJ, zz_laA]]
  unfold wp_X4_whyOf at hw
  refine zz_aload_n C dX4_whyOf_0 rfl 0 rfl ?_
  refine zz_getA C dX4_whyOf_1 (Or.inl q2449) zf_16_13_ebateHallModel hw (fun x1 hw => ?_)
  refine zz_iload_n C dX4_whyOf_4 rfl 1 rfl ?_
  refine zz_iald C dX4_whyOf_5 hw (fun x2 hw => ?_)
  refine zz_iconst (v := (2 : Int32)) C dX4_whyOf_6 (by decide) ?_
  refine zz_icmp_eq (tgt := 12) C dX4_whyOf_7 (by decide) hw (fun hw => ?_) (fun hw => ?_)
  · refine zz_iconst (v := (0 : Int32)) C dX4_whyOf_12 (by decide) ?_
    refine zz_istore_n (i := 2) (lv' := [(2, .int (0 : Int32)), (0, va_rf this), (1, .int p0)]) C dX4_whyOf_13 rfl (by decide) rfl ?_
    refine zz_subP [1, 2, 0] rfl ?_
    obtain ⟨n14, hw⟩ := hw
    exact ok_X4_whyOf_L14 C E hH hR n14 _ _ _ _ _ _ hw
  · refine zz_iconst (v := (-1 : Int32)) C dX4_whyOf_10 (by decide) ?_
    exact zz_iret C E dX4_whyOf_11 hw
abbrev cX4_farOf : ByteArray := prog_25_method_57_code
def yX4_farOf : MethodName := ⟨"DebateHallModel", "farOf", "(I)I"⟩
def dkwX4_farOf_1 : List UInt8 := [180, 0, 111, 29, 46, 62, 167, 255, 231, 28, 172]
abbrev dktX4_farOf_1 : List UInt8 := dkwX4_farOf_1 ++ []
def dkwX4_farOf_0 : List UInt8 := [3, 61, 27, 62, 42, 180, 0, 48, 180, 0, 124, 29, 46, 153, 0, 19, 132, 2, 1, 42, 180, 0, 48]
abbrev dktX4_farOf_0 : List UInt8 := dkwX4_farOf_0 ++ dktX4_farOf_1
theorem dksX4_farOf_0 : cX4_farOf.data.toList.drop 0 = dktX4_farOf_0 := by decide +kernel
theorem dksX4_farOf_1 : cX4_farOf.data.toList.drop 23 = dktX4_farOf_1 := dk_seg dksX4_farOf_0 23 rfl rfl
theorem dX4_farOf_0 : decode cX4_farOf 0 = .ok (.iconst 0, 1) := dk_3 (dk_at dksX4_farOf_0 0 rfl rfl)
theorem dX4_farOf_1 : decode cX4_farOf 1 = .ok (.istore_n 2, 1) := dk_61 (dk_at dksX4_farOf_0 1 rfl rfl)
theorem dX4_farOf_2 : decode cX4_farOf 2 = .ok (.iload_n 1, 1) := dk_27 (dk_at dksX4_farOf_0 2 rfl rfl)
theorem dX4_farOf_3 : decode cX4_farOf 3 = .ok (.istore_n 3, 1) := dk_62 (dk_at dksX4_farOf_0 3 rfl rfl)
theorem dX4_farOf_4 : decode cX4_farOf 4 = .ok (.aload_n 0, 1) := dk_42 (dk_at dksX4_farOf_0 4 rfl rfl)
theorem dX4_farOf_5 : decode cX4_farOf 5 = .ok (.getfield 48, 3) := dk_180 0 48 (dk_at dksX4_farOf_0 5 rfl rfl)
theorem dX4_farOf_8 : decode cX4_farOf 8 = .ok (.getfield 124, 3) := dk_180 0 124 (dk_at dksX4_farOf_0 8 rfl rfl)
theorem dX4_farOf_11 : decode cX4_farOf 11 = .ok (.iload_n 3, 1) := dk_29 (dk_at dksX4_farOf_0 11 rfl rfl)
theorem dX4_farOf_12 : decode cX4_farOf 12 = .ok (.iaload, 1) := dk_46 (dk_at dksX4_farOf_0 12 rfl rfl)
theorem dX4_farOf_13 : decode cX4_farOf 13 = .ok (.ifCond .eq 19, 3) := dk_153 0 19 (dk_at dksX4_farOf_0 13 rfl rfl)
theorem dX4_farOf_16 : decode cX4_farOf 16 = .ok (.iinc 2 1, 3) := dk_132 2 1 (dk_at dksX4_farOf_0 16 rfl rfl)
theorem dX4_farOf_19 : decode cX4_farOf 19 = .ok (.aload_n 0, 1) := dk_42 (dk_at dksX4_farOf_0 19 rfl rfl)
theorem dX4_farOf_20 : decode cX4_farOf 20 = .ok (.getfield 48, 3) := dk_180 0 48 (dk_at dksX4_farOf_0 20 rfl rfl)
theorem dX4_farOf_23 : decode cX4_farOf 23 = .ok (.getfield 111, 3) := dk_180 0 111 (dk_at dksX4_farOf_1 0 rfl rfl)
theorem dX4_farOf_26 : decode cX4_farOf 26 = .ok (.iload_n 3, 1) := dk_29 (dk_at dksX4_farOf_1 3 rfl rfl)
theorem dX4_farOf_27 : decode cX4_farOf 27 = .ok (.iaload, 1) := dk_46 (dk_at dksX4_farOf_1 4 rfl rfl)
theorem dX4_farOf_28 : decode cX4_farOf 28 = .ok (.istore_n 3, 1) := dk_62 (dk_at dksX4_farOf_1 5 rfl rfl)
theorem dX4_farOf_29 : decode cX4_farOf 29 = .ok (.goto (-25), 3) := dk_167 255 231 (dk_at dksX4_farOf_1 6 rfl rfl)
theorem dX4_farOf_32 : decode cX4_farOf 32 = .ok (.iload_n 2, 1) := dk_28 (dk_at dksX4_farOf_1 9 rfl rfl)
theorem dX4_farOf_33 : decode cX4_farOf 33 = .ok (.ireturn, 1) := dk_172 (dk_at dksX4_farOf_1 10 rfl rfl)
def wp_X4_farOf_L4 (Z : zzG) (K : Option Value → zzM → Prop) : Nat → Option Nat → Int32 → Int32 → zzM → Prop
  | 0, _, _, _, _ => False
  | n + 1, v0, v2, v3, M => zgA Z M v0 [16] 11 fun x1 => zgA Z M x1 [17] 5 fun x2 => zaI Z M x2 [100] v3 fun x3 => if x3 = 0 then (K (some (.int v2)) M) else (zgA Z M v0 [16] 11 fun x4 => zgA Z M x4 [17] 9 fun x5 => zaI Z M x5 [100] v3 fun x6 => wp_X4_farOf_L4 Z K n v0 (v2 + 1) x6 M)
def wp_X4_farOf (Z : zzG) (this : Option Nat) (p0 : Int32) (M : zzM) (K : Option Value → zzM → Prop) : Prop := ∃ n4 : Nat, wp_X4_farOf_L4 Z K n4 this (0 : Int32) p0 M
theorem ok_X4_farOf_L4 {G : zzX} (C : zz_C G cX4_farOf "DebateHallModel" 4) {K : Option Value → zzM → Prop} (E : zz_E G (some .int) K (fun _ _ _ => False)) (hH : zz_H G []) (hR : zz_Rm G 1) : ∀ (n : Nat) (v0 : Option Nat) (v2 : Int32) (v3 : Int32) (M : zzM) (bc bs : Nat), wp_X4_farOf_L4 (zz_Zof G) K n v0 v2 v3 M → zz_T G 4 M bc bs 4 [(0, va_rf v0), (2, .int v2), (3, .int v3)] [] := by
  intro n
  induction n with
  | zero =>
    intro v0 v2 v3 M bc bs hw
    exact False.elim hw
  | succ n ih =>
    intro v0 v2 v3 M bc bs hw
    refine zz_aload_n C dX4_farOf_4 rfl 0 rfl ?_
    refine zz_getA C dX4_farOf_5 (Or.inl q2447) zf_16_11_ebateHallModel hw (fun x1 hw => ?_)
    refine zz_getA C dX4_farOf_8 (Or.inr ⟨_, q2398⟩) zf_17_5_allModel_State hw (fun x2 hw => ?_)
    refine zz_iload_n C dX4_farOf_11 rfl 2 rfl ?_
    refine zz_iald C dX4_farOf_12 hw (fun x3 hw => ?_)
    refine zz_if_eq (tgt := 32) C dX4_farOf_13 (by decide) hw (fun hw => ?_) (fun hw => ?_)
    · refine zz_iload_n C dX4_farOf_32 rfl 1 rfl ?_
      exact zz_iret C E dX4_farOf_33 hw
    · refine zz_iinc (lv' := [(2, .int (v2 + 1)), (0, va_rf v0), (3, .int v3)]) C dX4_farOf_16 1 rfl (by rfl) (by decide) rfl ?_
      refine zz_aload_n C dX4_farOf_19 rfl 1 rfl ?_
      refine zz_getA C dX4_farOf_20 (Or.inl q2447) zf_16_11_ebateHallModel hw (fun x4 hw => ?_)
      refine zz_getA C dX4_farOf_23 (Or.inr ⟨_, q2406⟩) zf_17_9_allModel_State hw (fun x5 hw => ?_)
      refine zz_iload_n C dX4_farOf_26 rfl 2 rfl ?_
      refine zz_iald C dX4_farOf_27 hw (fun x6 hw => ?_)
      refine zz_istore_n (i := 3) (lv' := [(3, .int x6), (2, .int (v2 + 1)), (0, va_rf v0)]) C dX4_farOf_28 rfl (by decide) rfl ?_
      refine zz_goto (tgt := 4) C dX4_farOf_29 (by decide) ?_
      refine zz_subP [2, 1, 0] rfl ?_
      exact ih _ _ _ _ _ _ hw
theorem ok_X4_farOf {Z : zzG} {l : Launch} (hl : l.stackTraces = false) {this : Option Nat} {p0 : Int32} {M : zzM} {mc ms : Nat} {K : Option Value → zzM → Prop} (hw : wp_X4_farOf Z this p0 M K) : zz_Met Z l yX4_farOf (zz_ws yX4_farOf cX4_farOf 4 (some .int) none) 1 [va_rf this, .int p0] M mc ms K (fun _ _ _ => False) := by
  refine zz_ofW hl (plainFor_of_name (by decide)) (by simp only [zz_sl0, zz_slI, zz_slJ, zz_slA] <;> decide) (fun G hZ hll C E hH hR hin => ?_)
  subst hZ
  subst hll
  rw [show lv_args 0 [va_rf this, .int p0] = [(0, va_rf this), (1, .int p0)] by simp only [zz_la0, zz_laI, zz_laJ, zz_laA]]
  unfold wp_X4_farOf at hw
  refine zz_iconst (v := (0 : Int32)) C dX4_farOf_0 (by decide) ?_
  refine zz_istore_n (i := 2) (lv' := [(2, .int (0 : Int32)), (0, va_rf this), (1, .int p0)]) C dX4_farOf_1 rfl (by decide) rfl ?_
  refine zz_iload_n C dX4_farOf_2 rfl 2 rfl ?_
  refine zz_istore_n (i := 3) (lv' := [(3, .int p0), (2, .int (0 : Int32)), (0, va_rf this), (1, .int p0)]) C dX4_farOf_3 rfl (by decide) rfl ?_
  refine zz_subP [2, 1, 0] rfl ?_
  obtain ⟨n4, hw⟩ := hw
  exact ok_X4_farOf_L4 C E hH hR n4 _ _ _ _ _ _ hw
abbrev cX4_digest : ByteArray := prog_25_method_75_code
def yX4_digest : MethodName := ⟨"DebateHallModel", "digest", "()J"⟩
def dkwX4_digest_8 : List UInt8 := [132, 3, 1, 167, 255, 231, 31, 173]
abbrev dktX4_digest_8 : List UInt8 := dkwX4_digest_8 ++ []
def dkwX4_digest_7 : List UInt8 := [62, 29, 42, 180, 1, 75, 162, 0, 23, 31, 20, 1, 129, 105, 42, 180, 0, 31, 29, 46, 133, 97, 64]
abbrev dktX4_digest_7 : List UInt8 := dkwX4_digest_7 ++ dktX4_digest_8
def dkwX4_digest_6 : List UInt8 := [182, 1, 98, 133, 97, 20, 1, 129, 105, 42, 29, 182, 1, 101, 133, 97, 64, 132, 3, 1, 167, 255, 187, 3]
abbrev dktX4_digest_6 : List UInt8 := dkwX4_digest_6 ++ dktX4_digest_7
def dkwX4_digest_5 : List UInt8 := [42, 29, 21, 4, 182, 1, 95, 133, 97, 64, 132, 4, 1, 167, 255, 231, 31, 20, 1, 129, 105, 42, 29]
abbrev dktX4_digest_5 : List UInt8 := dkwX4_digest_5 ++ dktX4_digest_6
def dkwX4_digest_4 : List UInt8 := [180, 0, 48, 180, 0, 95, 162, 0, 64, 3, 54, 4, 21, 4, 16, 10, 163, 0, 24, 31, 20, 1, 129, 105]
abbrev dktX4_digest_4 : List UInt8 := dkwX4_digest_4 ++ dktX4_digest_5
def dkwX4_digest_3 : List UInt8 := [182, 1, 87, 133, 97, 64, 132, 4, 1, 167, 255, 231, 132, 3, 1, 167, 255, 211, 3, 62, 29, 42]
abbrev dktX4_digest_3 : List UInt8 := dkwX4_digest_3 ++ dktX4_digest_4
def dkwX4_digest_2 : List UInt8 := [162, 0, 40, 3, 54, 4, 21, 4, 16, 6, 163, 0, 24, 31, 20, 1, 129, 105, 42, 29, 21, 4]
abbrev dktX4_digest_2 : List UInt8 := dkwX4_digest_2 ++ dktX4_digest_3
def dkwX4_digest_1 : List UInt8 := [182, 1, 78, 133, 97, 64, 132, 3, 1, 167, 255, 234, 3, 62, 29, 42, 180, 0, 48, 180, 0, 88]
abbrev dktX4_digest_1 : List UInt8 := dkwX4_digest_1 ++ dktX4_digest_2
def dkwX4_digest_0 : List UInt8 := [42, 3, 181, 0, 85, 20, 1, 127, 64, 3, 62, 29, 16, 11, 163, 0, 22, 31, 20, 1, 129, 105, 42, 29]
abbrev dktX4_digest_0 : List UInt8 := dkwX4_digest_0 ++ dktX4_digest_1
theorem dksX4_digest_0 : cX4_digest.data.toList.drop 0 = dktX4_digest_0 := by decide +kernel
theorem dksX4_digest_1 : cX4_digest.data.toList.drop 24 = dktX4_digest_1 := dk_seg dksX4_digest_0 24 rfl rfl
theorem dksX4_digest_2 : cX4_digest.data.toList.drop 46 = dktX4_digest_2 := dk_seg dksX4_digest_1 22 rfl rfl
theorem dksX4_digest_3 : cX4_digest.data.toList.drop 68 = dktX4_digest_3 := dk_seg dksX4_digest_2 22 rfl rfl
theorem dksX4_digest_4 : cX4_digest.data.toList.drop 90 = dktX4_digest_4 := dk_seg dksX4_digest_3 22 rfl rfl
theorem dksX4_digest_5 : cX4_digest.data.toList.drop 114 = dktX4_digest_5 := dk_seg dksX4_digest_4 24 rfl rfl
theorem dksX4_digest_6 : cX4_digest.data.toList.drop 137 = dktX4_digest_6 := dk_seg dksX4_digest_5 23 rfl rfl
theorem dksX4_digest_7 : cX4_digest.data.toList.drop 161 = dktX4_digest_7 := dk_seg dksX4_digest_6 24 rfl rfl
theorem dksX4_digest_8 : cX4_digest.data.toList.drop 184 = dktX4_digest_8 := dk_seg dksX4_digest_7 23 rfl rfl
theorem dX4_digest_0 : decode cX4_digest 0 = .ok (.aload_n 0, 1) := dk_42 (dk_at dksX4_digest_0 0 rfl rfl)
theorem dX4_digest_1 : decode cX4_digest 1 = .ok (.iconst 0, 1) := dk_3 (dk_at dksX4_digest_0 1 rfl rfl)
theorem dX4_digest_2 : decode cX4_digest 2 = .ok (.putfield 85, 3) := dk_181 0 85 (dk_at dksX4_digest_0 2 rfl rfl)
theorem dX4_digest_5 : decode cX4_digest 5 = .ok (.ldc2_w 383, 3) := dk_20 1 127 (dk_at dksX4_digest_0 5 rfl rfl)
theorem dX4_digest_8 : decode cX4_digest 8 = .ok (.lstore_n 1, 1) := dk_64 (dk_at dksX4_digest_0 8 rfl rfl)
theorem dX4_digest_9 : decode cX4_digest 9 = .ok (.iconst 0, 1) := dk_3 (dk_at dksX4_digest_0 9 rfl rfl)
theorem dX4_digest_10 : decode cX4_digest 10 = .ok (.istore_n 3, 1) := dk_62 (dk_at dksX4_digest_0 10 rfl rfl)
theorem dX4_digest_11 : decode cX4_digest 11 = .ok (.iload_n 3, 1) := dk_29 (dk_at dksX4_digest_0 11 rfl rfl)
theorem dX4_digest_12 : decode cX4_digest 12 = .ok (.bipush 11, 2) := dk_16 11 (dk_at dksX4_digest_0 12 rfl rfl)
theorem dX4_digest_14 : decode cX4_digest 14 = .ok (.if_icmp .gt 22, 3) := dk_163 0 22 (dk_at dksX4_digest_0 14 rfl rfl)
theorem dX4_digest_17 : decode cX4_digest 17 = .ok (.lload_n 1, 1) := dk_31 (dk_at dksX4_digest_0 17 rfl rfl)
theorem dX4_digest_18 : decode cX4_digest 18 = .ok (.ldc2_w 385, 3) := dk_20 1 129 (dk_at dksX4_digest_0 18 rfl rfl)
theorem dX4_digest_21 : decode cX4_digest 21 = .ok (.lmul, 1) := dk_105 (dk_at dksX4_digest_0 21 rfl rfl)
theorem dX4_digest_22 : decode cX4_digest 22 = .ok (.aload_n 0, 1) := dk_42 (dk_at dksX4_digest_0 22 rfl rfl)
theorem dX4_digest_23 : decode cX4_digest 23 = .ok (.iload_n 3, 1) := dk_29 (dk_at dksX4_digest_0 23 rfl rfl)
theorem dX4_digest_24 : decode cX4_digest 24 = .ok (.invokevirtual 334, 3) := dk_182 1 78 (dk_at dksX4_digest_1 0 rfl rfl)
theorem dX4_digest_27 : decode cX4_digest 27 = .ok (.i2l, 1) := dk_133 (dk_at dksX4_digest_1 3 rfl rfl)
theorem dX4_digest_28 : decode cX4_digest 28 = .ok (.ladd, 1) := dk_97 (dk_at dksX4_digest_1 4 rfl rfl)
theorem dX4_digest_29 : decode cX4_digest 29 = .ok (.lstore_n 1, 1) := dk_64 (dk_at dksX4_digest_1 5 rfl rfl)
theorem dX4_digest_30 : decode cX4_digest 30 = .ok (.iinc 3 1, 3) := dk_132 3 1 (dk_at dksX4_digest_1 6 rfl rfl)
theorem dX4_digest_33 : decode cX4_digest 33 = .ok (.goto (-22), 3) := dk_167 255 234 (dk_at dksX4_digest_1 9 rfl rfl)
theorem dX4_digest_36 : decode cX4_digest 36 = .ok (.iconst 0, 1) := dk_3 (dk_at dksX4_digest_1 12 rfl rfl)
theorem dX4_digest_37 : decode cX4_digest 37 = .ok (.istore_n 3, 1) := dk_62 (dk_at dksX4_digest_1 13 rfl rfl)
theorem dX4_digest_38 : decode cX4_digest 38 = .ok (.iload_n 3, 1) := dk_29 (dk_at dksX4_digest_1 14 rfl rfl)
theorem dX4_digest_39 : decode cX4_digest 39 = .ok (.aload_n 0, 1) := dk_42 (dk_at dksX4_digest_1 15 rfl rfl)
theorem dX4_digest_40 : decode cX4_digest 40 = .ok (.getfield 48, 3) := dk_180 0 48 (dk_at dksX4_digest_1 16 rfl rfl)
theorem dX4_digest_43 : decode cX4_digest 43 = .ok (.getfield 88, 3) := dk_180 0 88 (dk_at dksX4_digest_1 19 rfl rfl)
theorem dX4_digest_46 : decode cX4_digest 46 = .ok (.if_icmp .ge 40, 3) := dk_162 0 40 (dk_at dksX4_digest_2 0 rfl rfl)
theorem dX4_digest_49 : decode cX4_digest 49 = .ok (.iconst 0, 1) := dk_3 (dk_at dksX4_digest_2 3 rfl rfl)
theorem dX4_digest_50 : decode cX4_digest 50 = .ok (.istore 4, 2) := dk_54 4 (dk_at dksX4_digest_2 4 rfl rfl)
theorem dX4_digest_52 : decode cX4_digest 52 = .ok (.iload 4, 2) := dk_21 4 (dk_at dksX4_digest_2 6 rfl rfl)
theorem dX4_digest_54 : decode cX4_digest 54 = .ok (.bipush 6, 2) := dk_16 6 (dk_at dksX4_digest_2 8 rfl rfl)
theorem dX4_digest_56 : decode cX4_digest 56 = .ok (.if_icmp .gt 24, 3) := dk_163 0 24 (dk_at dksX4_digest_2 10 rfl rfl)
theorem dX4_digest_59 : decode cX4_digest 59 = .ok (.lload_n 1, 1) := dk_31 (dk_at dksX4_digest_2 13 rfl rfl)
theorem dX4_digest_60 : decode cX4_digest 60 = .ok (.ldc2_w 385, 3) := dk_20 1 129 (dk_at dksX4_digest_2 14 rfl rfl)
theorem dX4_digest_63 : decode cX4_digest 63 = .ok (.lmul, 1) := dk_105 (dk_at dksX4_digest_2 17 rfl rfl)
theorem dX4_digest_64 : decode cX4_digest 64 = .ok (.aload_n 0, 1) := dk_42 (dk_at dksX4_digest_2 18 rfl rfl)
theorem dX4_digest_65 : decode cX4_digest 65 = .ok (.iload_n 3, 1) := dk_29 (dk_at dksX4_digest_2 19 rfl rfl)
theorem dX4_digest_66 : decode cX4_digest 66 = .ok (.iload 4, 2) := dk_21 4 (dk_at dksX4_digest_2 20 rfl rfl)
theorem dX4_digest_68 : decode cX4_digest 68 = .ok (.invokevirtual 343, 3) := dk_182 1 87 (dk_at dksX4_digest_3 0 rfl rfl)
theorem dX4_digest_71 : decode cX4_digest 71 = .ok (.i2l, 1) := dk_133 (dk_at dksX4_digest_3 3 rfl rfl)
theorem dX4_digest_72 : decode cX4_digest 72 = .ok (.ladd, 1) := dk_97 (dk_at dksX4_digest_3 4 rfl rfl)
theorem dX4_digest_73 : decode cX4_digest 73 = .ok (.lstore_n 1, 1) := dk_64 (dk_at dksX4_digest_3 5 rfl rfl)
theorem dX4_digest_74 : decode cX4_digest 74 = .ok (.iinc 4 1, 3) := dk_132 4 1 (dk_at dksX4_digest_3 6 rfl rfl)
theorem dX4_digest_77 : decode cX4_digest 77 = .ok (.goto (-25), 3) := dk_167 255 231 (dk_at dksX4_digest_3 9 rfl rfl)
theorem dX4_digest_80 : decode cX4_digest 80 = .ok (.iinc 3 1, 3) := dk_132 3 1 (dk_at dksX4_digest_3 12 rfl rfl)
theorem dX4_digest_83 : decode cX4_digest 83 = .ok (.goto (-45), 3) := dk_167 255 211 (dk_at dksX4_digest_3 15 rfl rfl)
theorem dX4_digest_86 : decode cX4_digest 86 = .ok (.iconst 0, 1) := dk_3 (dk_at dksX4_digest_3 18 rfl rfl)
theorem dX4_digest_87 : decode cX4_digest 87 = .ok (.istore_n 3, 1) := dk_62 (dk_at dksX4_digest_3 19 rfl rfl)
theorem dX4_digest_88 : decode cX4_digest 88 = .ok (.iload_n 3, 1) := dk_29 (dk_at dksX4_digest_3 20 rfl rfl)
theorem dX4_digest_89 : decode cX4_digest 89 = .ok (.aload_n 0, 1) := dk_42 (dk_at dksX4_digest_3 21 rfl rfl)
theorem dX4_digest_90 : decode cX4_digest 90 = .ok (.getfield 48, 3) := dk_180 0 48 (dk_at dksX4_digest_4 0 rfl rfl)
theorem dX4_digest_93 : decode cX4_digest 93 = .ok (.getfield 95, 3) := dk_180 0 95 (dk_at dksX4_digest_4 3 rfl rfl)
theorem dX4_digest_96 : decode cX4_digest 96 = .ok (.if_icmp .ge 64, 3) := dk_162 0 64 (dk_at dksX4_digest_4 6 rfl rfl)
theorem dX4_digest_99 : decode cX4_digest 99 = .ok (.iconst 0, 1) := dk_3 (dk_at dksX4_digest_4 9 rfl rfl)
theorem dX4_digest_100 : decode cX4_digest 100 = .ok (.istore 4, 2) := dk_54 4 (dk_at dksX4_digest_4 10 rfl rfl)
theorem dX4_digest_102 : decode cX4_digest 102 = .ok (.iload 4, 2) := dk_21 4 (dk_at dksX4_digest_4 12 rfl rfl)
theorem dX4_digest_104 : decode cX4_digest 104 = .ok (.bipush 10, 2) := dk_16 10 (dk_at dksX4_digest_4 14 rfl rfl)
theorem dX4_digest_106 : decode cX4_digest 106 = .ok (.if_icmp .gt 24, 3) := dk_163 0 24 (dk_at dksX4_digest_4 16 rfl rfl)
theorem dX4_digest_109 : decode cX4_digest 109 = .ok (.lload_n 1, 1) := dk_31 (dk_at dksX4_digest_4 19 rfl rfl)
theorem dX4_digest_110 : decode cX4_digest 110 = .ok (.ldc2_w 385, 3) := dk_20 1 129 (dk_at dksX4_digest_4 20 rfl rfl)
theorem dX4_digest_113 : decode cX4_digest 113 = .ok (.lmul, 1) := dk_105 (dk_at dksX4_digest_4 23 rfl rfl)
theorem dX4_digest_114 : decode cX4_digest 114 = .ok (.aload_n 0, 1) := dk_42 (dk_at dksX4_digest_5 0 rfl rfl)
theorem dX4_digest_115 : decode cX4_digest 115 = .ok (.iload_n 3, 1) := dk_29 (dk_at dksX4_digest_5 1 rfl rfl)
theorem dX4_digest_116 : decode cX4_digest 116 = .ok (.iload 4, 2) := dk_21 4 (dk_at dksX4_digest_5 2 rfl rfl)
theorem dX4_digest_118 : decode cX4_digest 118 = .ok (.invokevirtual 351, 3) := dk_182 1 95 (dk_at dksX4_digest_5 4 rfl rfl)
theorem dX4_digest_121 : decode cX4_digest 121 = .ok (.i2l, 1) := dk_133 (dk_at dksX4_digest_5 7 rfl rfl)
theorem dX4_digest_122 : decode cX4_digest 122 = .ok (.ladd, 1) := dk_97 (dk_at dksX4_digest_5 8 rfl rfl)
theorem dX4_digest_123 : decode cX4_digest 123 = .ok (.lstore_n 1, 1) := dk_64 (dk_at dksX4_digest_5 9 rfl rfl)
theorem dX4_digest_124 : decode cX4_digest 124 = .ok (.iinc 4 1, 3) := dk_132 4 1 (dk_at dksX4_digest_5 10 rfl rfl)
theorem dX4_digest_127 : decode cX4_digest 127 = .ok (.goto (-25), 3) := dk_167 255 231 (dk_at dksX4_digest_5 13 rfl rfl)
theorem dX4_digest_130 : decode cX4_digest 130 = .ok (.lload_n 1, 1) := dk_31 (dk_at dksX4_digest_5 16 rfl rfl)
theorem dX4_digest_131 : decode cX4_digest 131 = .ok (.ldc2_w 385, 3) := dk_20 1 129 (dk_at dksX4_digest_5 17 rfl rfl)
theorem dX4_digest_134 : decode cX4_digest 134 = .ok (.lmul, 1) := dk_105 (dk_at dksX4_digest_5 20 rfl rfl)
theorem dX4_digest_135 : decode cX4_digest 135 = .ok (.aload_n 0, 1) := dk_42 (dk_at dksX4_digest_5 21 rfl rfl)
theorem dX4_digest_136 : decode cX4_digest 136 = .ok (.iload_n 3, 1) := dk_29 (dk_at dksX4_digest_5 22 rfl rfl)
theorem dX4_digest_137 : decode cX4_digest 137 = .ok (.invokevirtual 354, 3) := dk_182 1 98 (dk_at dksX4_digest_6 0 rfl rfl)
theorem dX4_digest_140 : decode cX4_digest 140 = .ok (.i2l, 1) := dk_133 (dk_at dksX4_digest_6 3 rfl rfl)
theorem dX4_digest_141 : decode cX4_digest 141 = .ok (.ladd, 1) := dk_97 (dk_at dksX4_digest_6 4 rfl rfl)
theorem dX4_digest_142 : decode cX4_digest 142 = .ok (.ldc2_w 385, 3) := dk_20 1 129 (dk_at dksX4_digest_6 5 rfl rfl)
theorem dX4_digest_145 : decode cX4_digest 145 = .ok (.lmul, 1) := dk_105 (dk_at dksX4_digest_6 8 rfl rfl)
theorem dX4_digest_146 : decode cX4_digest 146 = .ok (.aload_n 0, 1) := dk_42 (dk_at dksX4_digest_6 9 rfl rfl)
theorem dX4_digest_147 : decode cX4_digest 147 = .ok (.iload_n 3, 1) := dk_29 (dk_at dksX4_digest_6 10 rfl rfl)
theorem dX4_digest_148 : decode cX4_digest 148 = .ok (.invokevirtual 357, 3) := dk_182 1 101 (dk_at dksX4_digest_6 11 rfl rfl)
theorem dX4_digest_151 : decode cX4_digest 151 = .ok (.i2l, 1) := dk_133 (dk_at dksX4_digest_6 14 rfl rfl)
theorem dX4_digest_152 : decode cX4_digest 152 = .ok (.ladd, 1) := dk_97 (dk_at dksX4_digest_6 15 rfl rfl)
theorem dX4_digest_153 : decode cX4_digest 153 = .ok (.lstore_n 1, 1) := dk_64 (dk_at dksX4_digest_6 16 rfl rfl)
theorem dX4_digest_154 : decode cX4_digest 154 = .ok (.iinc 3 1, 3) := dk_132 3 1 (dk_at dksX4_digest_6 17 rfl rfl)
theorem dX4_digest_157 : decode cX4_digest 157 = .ok (.goto (-69), 3) := dk_167 255 187 (dk_at dksX4_digest_6 20 rfl rfl)
theorem dX4_digest_160 : decode cX4_digest 160 = .ok (.iconst 0, 1) := dk_3 (dk_at dksX4_digest_6 23 rfl rfl)
theorem dX4_digest_161 : decode cX4_digest 161 = .ok (.istore_n 3, 1) := dk_62 (dk_at dksX4_digest_7 0 rfl rfl)
theorem dX4_digest_162 : decode cX4_digest 162 = .ok (.iload_n 3, 1) := dk_29 (dk_at dksX4_digest_7 1 rfl rfl)
theorem dX4_digest_163 : decode cX4_digest 163 = .ok (.aload_n 0, 1) := dk_42 (dk_at dksX4_digest_7 2 rfl rfl)
theorem dX4_digest_164 : decode cX4_digest 164 = .ok (.getfield 331, 3) := dk_180 1 75 (dk_at dksX4_digest_7 3 rfl rfl)
theorem dX4_digest_167 : decode cX4_digest 167 = .ok (.if_icmp .ge 23, 3) := dk_162 0 23 (dk_at dksX4_digest_7 6 rfl rfl)
theorem dX4_digest_170 : decode cX4_digest 170 = .ok (.lload_n 1, 1) := dk_31 (dk_at dksX4_digest_7 9 rfl rfl)
theorem dX4_digest_171 : decode cX4_digest 171 = .ok (.ldc2_w 385, 3) := dk_20 1 129 (dk_at dksX4_digest_7 10 rfl rfl)
theorem dX4_digest_174 : decode cX4_digest 174 = .ok (.lmul, 1) := dk_105 (dk_at dksX4_digest_7 13 rfl rfl)
theorem dX4_digest_175 : decode cX4_digest 175 = .ok (.aload_n 0, 1) := dk_42 (dk_at dksX4_digest_7 14 rfl rfl)
theorem dX4_digest_176 : decode cX4_digest 176 = .ok (.getfield 31, 3) := dk_180 0 31 (dk_at dksX4_digest_7 15 rfl rfl)
theorem dX4_digest_179 : decode cX4_digest 179 = .ok (.iload_n 3, 1) := dk_29 (dk_at dksX4_digest_7 18 rfl rfl)
theorem dX4_digest_180 : decode cX4_digest 180 = .ok (.iaload, 1) := dk_46 (dk_at dksX4_digest_7 19 rfl rfl)
theorem dX4_digest_181 : decode cX4_digest 181 = .ok (.i2l, 1) := dk_133 (dk_at dksX4_digest_7 20 rfl rfl)
theorem dX4_digest_182 : decode cX4_digest 182 = .ok (.ladd, 1) := dk_97 (dk_at dksX4_digest_7 21 rfl rfl)
theorem dX4_digest_183 : decode cX4_digest 183 = .ok (.lstore_n 1, 1) := dk_64 (dk_at dksX4_digest_7 22 rfl rfl)
theorem dX4_digest_184 : decode cX4_digest 184 = .ok (.iinc 3 1, 3) := dk_132 3 1 (dk_at dksX4_digest_8 0 rfl rfl)
theorem dX4_digest_187 : decode cX4_digest 187 = .ok (.goto (-25), 3) := dk_167 255 231 (dk_at dksX4_digest_8 3 rfl rfl)
theorem dX4_digest_190 : decode cX4_digest 190 = .ok (.lload_n 1, 1) := dk_31 (dk_at dksX4_digest_8 6 rfl rfl)
theorem dX4_digest_191 : decode cX4_digest 191 = .ok (.lreturn, 1) := dk_173 (dk_at dksX4_digest_8 7 rfl rfl)
theorem zf_16_0_ebateHallModel : zz_fok [16] 0 "DebateHallModel" "thrown" "I" := zz_fok1 (zR_16, zT_16, 24) rfl (by decide) rfl rfl (Or.inl rfl)
theorem q2436 : (Jvm.Cond.fieldLink "DebateHallModel" (85 : Nat) "DebateHallModel" "thrown" "I") ∈ lw_all := lw_g (lw_at lw_m10 196 rfl) rfl
theorem zp_16_0 : zz_pok [16] 0 := zz_pok1 (zR_16, zT_16, 24) (by decide) rfl rfl
theorem q2859 : (Jvm.Cond.constantLong "DebateHallModel" (383 : Nat) (719 : Int64)) ∈ lw_all := lw_g (lw_at lw_m12 139 rfl) rfl
theorem q2860 : (Jvm.Cond.constantLong "DebateHallModel" (385 : Nat) (31 : Int64)) ∈ lw_all := lw_g (lw_at lw_m12 140 rfl) rfl
theorem q2731 : (Jvm.Cond.code ({ cls := "DebateHallModel", name := "counted", desc := "(I)I" } : Jvm.MethodName) prog_25_method_47_code (6 : Nat) (Option.some Jvm.ClassFile.FieldType.int)) ∈ lw_all := lw_g (lw_at lw_m12 11 rfl) rfl
theorem zk_X4_counted : zz_cd yX4_counted cX4_counted 6 (some .int) none ∈ lw_all := q2731
theorem zy_X4_counted : zz_yok yX4_counted 1 = true := by decide +kernel
theorem q2728 : (Jvm.Cond.methodLink "DebateHallModel" (334 : Nat) ({ cls := "DebateHallModel", name := "counted", desc := "(I)I" } : Jvm.MethodName)) ∈ lw_all := lw_g (lw_at lw_m12 8 rfl) rfl
theorem q2730 : (Jvm.Cond.instanceMethod ({ cls := "DebateHallModel", name := "counted", desc := "(I)I" } : Jvm.MethodName)) ∈ lw_all := lw_g (lw_at lw_m12 10 rfl) rfl
theorem q2743 : (Jvm.Cond.code ({ cls := "DebateHallModel", name := "speakerTold", desc := "(II)I" } : Jvm.MethodName) prog_25_method_49_code (6 : Nat) (Option.some Jvm.ClassFile.FieldType.int)) ∈ lw_all := lw_g (lw_at lw_m12 23 rfl) rfl
theorem zk_X4_speakerTold : zz_cd yX4_speakerTold cX4_speakerTold 6 (some .int) none ∈ lw_all := q2743
theorem zy_X4_speakerTold : zz_yok yX4_speakerTold 2 = true := by decide +kernel
theorem q2740 : (Jvm.Cond.methodLink "DebateHallModel" (343 : Nat) ({ cls := "DebateHallModel", name := "speakerTold", desc := "(II)I" } : Jvm.MethodName)) ∈ lw_all := lw_g (lw_at lw_m12 20 rfl) rfl
theorem q2742 : (Jvm.Cond.instanceMethod ({ cls := "DebateHallModel", name := "speakerTold", desc := "(II)I" } : Jvm.MethodName)) ∈ lw_all := lw_g (lw_at lw_m12 22 rfl) rfl
theorem q2781 : (Jvm.Cond.code ({ cls := "DebateHallModel", name := "whyOf", desc := "(I)I" } : Jvm.MethodName) prog_25_method_55_code (3 : Nat) (Option.some Jvm.ClassFile.FieldType.int)) ∈ lw_all := lw_g (lw_at lw_m12 61 rfl) rfl
theorem zk_X4_whyOf : zz_cd yX4_whyOf cX4_whyOf 3 (some .int) none ∈ lw_all := q2781
theorem zy_X4_whyOf : zz_yok yX4_whyOf 1 = true := by decide +kernel
theorem q2789 : (Jvm.Cond.code ({ cls := "DebateHallModel", name := "farOf", desc := "(I)I" } : Jvm.MethodName) prog_25_method_57_code (4 : Nat) (Option.some Jvm.ClassFile.FieldType.int)) ∈ lw_all := lw_g (lw_at lw_m12 69 rfl) rfl
theorem zk_X4_farOf : zz_cd yX4_farOf cX4_farOf 4 (some .int) none ∈ lw_all := q2789
theorem zy_X4_farOf : zz_yok yX4_farOf 1 = true := by decide +kernel
theorem q2786 : (Jvm.Cond.methodLink "DebateHallModel" (357 : Nat) ({ cls := "DebateHallModel", name := "farOf", desc := "(I)I" } : Jvm.MethodName)) ∈ lw_all := lw_g (lw_at lw_m12 66 rfl) rfl
theorem q2788 : (Jvm.Cond.instanceMethod ({ cls := "DebateHallModel", name := "farOf", desc := "(I)I" } : Jvm.MethodName)) ∈ lw_all := lw_g (lw_at lw_m12 68 rfl) rfl
theorem q2778 : (Jvm.Cond.methodLink "DebateHallModel" (354 : Nat) ({ cls := "DebateHallModel", name := "whyOf", desc := "(I)I" } : Jvm.MethodName)) ∈ lw_all := lw_g (lw_at lw_m12 58 rfl) rfl
theorem q2780 : (Jvm.Cond.instanceMethod ({ cls := "DebateHallModel", name := "whyOf", desc := "(I)I" } : Jvm.MethodName)) ∈ lw_all := lw_g (lw_at lw_m12 60 rfl) rfl
theorem q2765 : (Jvm.Cond.code ({ cls := "DebateHallModel", name := "itemTold", desc := "(II)I" } : Jvm.MethodName) prog_25_method_52_code (3 : Nat) (Option.some Jvm.ClassFile.FieldType.int)) ∈ lw_all := lw_g (lw_at lw_m12 45 rfl) rfl
theorem zk_X4_itemTold : zz_cd yX4_itemTold cX4_itemTold 3 (some .int) none ∈ lw_all := q2765
theorem zy_X4_itemTold : zz_yok yX4_itemTold 2 = true := by decide +kernel
theorem q2762 : (Jvm.Cond.methodLink "DebateHallModel" (351 : Nat) ({ cls := "DebateHallModel", name := "itemTold", desc := "(II)I" } : Jvm.MethodName)) ∈ lw_all := lw_g (lw_at lw_m12 42 rfl) rfl
theorem q2764 : (Jvm.Cond.instanceMethod ({ cls := "DebateHallModel", name := "itemTold", desc := "(II)I" } : Jvm.MethodName)) ∈ lw_all := lw_g (lw_at lw_m12 44 rfl) rfl
def wp_X4_digest_L52 (Z : zzG) (k38 : Option Nat → Int64 → Int32 → zzM → Nat → Nat → Prop) (K : Option Value → zzM → Prop) : Nat → Option Nat → Int64 → Int32 → Int32 → zzM → Nat → Nat → Prop
  | 0, _, _, _, _, _, _, _ => False
  | n + 1, v0, v1, v3, v4, M, bc, bs => if (6 : Int32) < v4 then (k38 v0 v1 (v3 + 1) M bc bs) else (zty Z M v0 fun t => t = 16 ∧ zcc bc bs (fun c s k => wp_X4_speakerTold Z v0 v3 v4 M c s k) fun r9 M10 bc11 bs12 => zrI r9 fun x13 => wp_X4_digest_L52 Z k38 K n v0 ((v1 * (31 : Int64)) + x13.toInt64) v3 (v4 + 1) M10 bc11 bs12)
def wp_X4_digest_L102 (Z : zzG) (k88 : Option Nat → Int64 → Int32 → zzM → Nat → Nat → Prop) (K : Option Value → zzM → Prop) : Nat → Option Nat → Int64 → Int32 → Int32 → zzM → Nat → Nat → Prop
  | 0, _, _, _, _, _, _, _ => False
  | n + 1, v0, v1, v3, v4, M, bc, bs => if (10 : Int32) < v4 then (zty Z M v0 fun t => t = 16 ∧ wp_X4_whyOf Z v0 v3 M (fun r16 M17 => zrI r16 fun x20 => zty Z M17 v0 fun t => t = 16 ∧ wp_X4_farOf Z v0 v3 M17 (fun r21 M22 => zrI r21 fun x25 => k88 v0 ((((v1 * (31 : Int64)) + x20.toInt64) * (31 : Int64)) + x25.toInt64) (v3 + 1) M22 bc bs))) else (zty Z M v0 fun t => t = 16 ∧ wp_X4_itemTold Z v0 v3 v4 M (fun r26 M27 => zrI r26 fun x30 => wp_X4_digest_L102 Z k88 K n v0 ((v1 * (31 : Int64)) + x30.toInt64) v3 (v4 + 1) M27 bc bs))
def wp_X4_digest_L162 (Z : zzG) (K : Option Value → zzM → Prop) : Nat → Option Nat → Int64 → Int32 → zzM → Nat → Nat → Prop
  | 0, _, _, _, _, _, _ => False
  | n + 1, v0, v1, v3, M, bc, bs => zgI Z M v0 [16] 4 fun x31 => if x31 ≤ v3 then (K (some (.long v1)) M) else (zgA Z M v0 [16] 5 fun x32 => zaI Z M x32 [100] v3 fun x33 => wp_X4_digest_L162 Z K n v0 ((v1 * (31 : Int64)) + x33.toInt64) (v3 + 1) M bc bs)
def wp_X4_digest_L88 (Z : zzG) (K : Option Value → zzM → Prop) : Nat → Option Nat → Int64 → Int32 → zzM → Nat → Nat → Prop
  | 0, _, _, _, _, _, _ => False
  | n + 1, v0, v1, v3, M, bc, bs => zgA Z M v0 [16] 11 fun x14 => zgI Z M x14 [17] 3 fun x15 => if x15 ≤ v3 then (∃ n162 : Nat, wp_X4_digest_L162 Z K n162 v0 v1 (0 : Int32) M bc bs) else (∃ n102 : Nat, wp_X4_digest_L102 Z (wp_X4_digest_L88 Z K n) K n102 v0 v1 v3 (0 : Int32) M bc bs)
def wp_X4_digest_L38 (Z : zzG) (K : Option Value → zzM → Prop) : Nat → Option Nat → Int64 → Int32 → zzM → Nat → Nat → Prop
  | 0, _, _, _, _, _, _ => False
  | n + 1, v0, v1, v3, M, bc, bs => zgA Z M v0 [16] 11 fun x7 => zgI Z M x7 [17] 0 fun x8 => if x8 ≤ v3 then (∃ n88 : Nat, wp_X4_digest_L88 Z K n88 v0 v1 (0 : Int32) M bc bs) else (∃ n52 : Nat, wp_X4_digest_L52 Z (wp_X4_digest_L38 Z K n) K n52 v0 v1 v3 (0 : Int32) M bc bs)
def wp_X4_digest_L11 (Z : zzG) (K : Option Value → zzM → Prop) : Nat → Option Nat → Int64 → Int32 → zzM → Nat → Nat → Prop
  | 0, _, _, _, _, _, _ => False
  | n + 1, v0, v1, v3, M, bc, bs => if (11 : Int32) < v3 then (∃ n38 : Nat, wp_X4_digest_L38 Z K n38 v0 v1 (0 : Int32) M bc bs) else (zty Z M v0 fun t => t = 16 ∧ zcc bc bs (fun c s k => wp_X4_counted Z v0 v3 M c s k) fun r2 M3 bc4 bs5 => zrI r2 fun x6 => wp_X4_digest_L11 Z K n v0 ((v1 * (31 : Int64)) + x6.toInt64) (v3 + 1) M3 bc4 bs5)
def wp_X4_digest (Z : zzG) (this : Option Nat) (M : zzM) (bc bs : Nat) (K : Option Value → zzM → Prop) : Prop := zput Z M this [16] 0 (.int (0 : Int32)) fun M1 => ∃ n11 : Nat, wp_X4_digest_L11 Z K n11 this (719 : Int64) (0 : Int32) M1 bc bs
theorem ok_X4_digest_L52 {G : zzX} (C : zz_C G cX4_digest "DebateHallModel" 5) {K : Option Value → zzM → Prop} (E : zz_E G (some .long) K (fun _ _ _ => False)) (hH : zz_H G []) (hR : zz_Rm G 5) {k38 : Option Nat → Int64 → Int32 → zzM → Nat → Nat → Prop} (hk38 : ∀ (z0 : Option Nat) (z1 : Int64) (z2 : Int32) (M : zzM) (bc bs : Nat), k38 z0 z1 z2 M bc bs → zz_T G 5 M bc bs 38 [(0, va_rf z0), (1, .long z1), (3, .int z2)] []) : ∀ (n : Nat) (v0 : Option Nat) (v1 : Int64) (v3 : Int32) (v4 : Int32) (M : zzM) (bc bs : Nat), wp_X4_digest_L52 (zz_Zof G) k38 K n v0 v1 v3 v4 M bc bs → zz_T G 5 M bc bs 52 [(0, va_rf v0), (1, .long v1), (3, .int v3), (4, .int v4)] [] := by
  intro n
  induction n with
  | zero =>
    intro v0 v1 v3 v4 M bc bs hw
    exact False.elim hw
  | succ n ih =>
    intro v0 v1 v3 v4 M bc bs hw
    refine zz_iload C dX4_digest_52 3 rfl ?_
    refine zz_bipush (v := (6 : Int32)) C dX4_digest_54 (by decide) ?_
    refine zz_icmp_gt (tgt := 80) C dX4_digest_56 (by decide) hw (fun hw => ?_) (fun hw => ?_)
    · refine zz_iinc (lv' := [(3, .int (v3 + 1)), (0, va_rf v0), (1, .long v1), (4, .int v4)]) C dX4_digest_80 2 rfl (by rfl) (by decide) rfl ?_
      refine zz_goto (tgt := 38) C dX4_digest_83 (by decide) ?_
      refine zz_subP [1, 2, 0] rfl ?_
      exact hk38 _ _ _ _ _ _ hw
    · refine zz_lload_n C dX4_digest_59 rfl 1 rfl ?_
      refine zz_ldc2 C dX4_digest_60 q2860 ?_
      refine zz_lmul C dX4_digest_63 ?_
      refine zz_aload_n C dX4_digest_64 rfl 0 rfl ?_
      refine zz_iload_n C dX4_digest_65 rfl 2 rfl ?_
      refine zz_iload C dX4_digest_66 3 rfl ?_
      obtain ⟨a9, t9, b9, fs9, hro, hL, rfl, hw⟩ := ztyS hw
      obtain ⟨c9, s9, hc9, hs9, hw⟩ := hw
      refine zz_callV (r := (zR_16, zT_16, 24)) (As := [.int v3, .int v4]) (rest := [.long (v1 * (31 : Int64))]) C hR hro dX4_digest_68 (Or.inl q2740) q2742 (Or.inl qs66) zl_DebateHallModel zk_X4_speakerTold (Or.inl rfl) zy_X4_speakerTold rfl (by decide) (by decide) hL (ok_X4_speakerTold (zz_hl C) hw) hc9 hs9 (zz_cat10 _ (Nat.le_of_ble_eq_true rfl)) (fun r9 M10 hw => zz_kI hw (fun x13 hw => ?_)) (fun _ _ _ h9 => h9.elim) rfl
      refine zz_i2l C dX4_digest_71 ?_
      refine zz_ladd C dX4_digest_72 ?_
      refine zz_lstore_n (i := 1) (lv' := [(1, .long ((v1 * (31 : Int64)) + x13.toInt64)), (0, va_rf v0), (3, .int v3), (4, .int v4)]) C dX4_digest_73 rfl (by decide) (by simp [zz_cat, zz_catI, zz_catJ, zz_catD]) ?_
      refine zz_iinc (lv' := [(4, .int (v4 + 1)), (1, .long ((v1 * (31 : Int64)) + x13.toInt64)), (0, va_rf v0), (3, .int v3)]) C dX4_digest_74 3 rfl (by rfl) (by decide) rfl ?_
      refine zz_goto (tgt := 52) C dX4_digest_77 (by decide) ?_
      refine zz_subP [2, 1, 3, 0] rfl ?_
      exact ih _ _ _ _ _ _ _ hw
theorem ok_X4_digest_L102 {G : zzX} (C : zz_C G cX4_digest "DebateHallModel" 5) {K : Option Value → zzM → Prop} (E : zz_E G (some .long) K (fun _ _ _ => False)) (hH : zz_H G []) (hR : zz_Rm G 5) {k88 : Option Nat → Int64 → Int32 → zzM → Nat → Nat → Prop} (hk88 : ∀ (z0 : Option Nat) (z1 : Int64) (z2 : Int32) (M : zzM) (bc bs : Nat), k88 z0 z1 z2 M bc bs → zz_T G 5 M bc bs 88 [(0, va_rf z0), (1, .long z1), (3, .int z2)] []) : ∀ (n : Nat) (v0 : Option Nat) (v1 : Int64) (v3 : Int32) (v4 : Int32) (M : zzM) (bc bs : Nat), wp_X4_digest_L102 (zz_Zof G) k88 K n v0 v1 v3 v4 M bc bs → zz_T G 5 M bc bs 102 [(0, va_rf v0), (1, .long v1), (3, .int v3), (4, .int v4)] [] := by
  intro n
  induction n with
  | zero =>
    intro v0 v1 v3 v4 M bc bs hw
    exact False.elim hw
  | succ n ih =>
    intro v0 v1 v3 v4 M bc bs hw
    refine zz_iload C dX4_digest_102 3 rfl ?_
    refine zz_bipush (v := (10 : Int32)) C dX4_digest_104 (by decide) ?_
    refine zz_icmp_gt (tgt := 130) C dX4_digest_106 (by decide) hw (fun hw => ?_) (fun hw => ?_)
    · refine zz_lload_n C dX4_digest_130 rfl 1 rfl ?_
      refine zz_ldc2 C dX4_digest_131 q2860 ?_
      refine zz_lmul C dX4_digest_134 ?_
      refine zz_aload_n C dX4_digest_135 rfl 0 rfl ?_
      refine zz_iload_n C dX4_digest_136 rfl 2 rfl ?_
      obtain ⟨a9, t9, b9, fs9, hro, hL, rfl, hw⟩ := ztyS hw
      refine zz_callV (r := (zR_16, zT_16, 24)) (As := [.int v3]) (rest := [.long (v1 * (31 : Int64))]) (mc := 0) (ms := 0) C hR hro dX4_digest_137 (Or.inl q2778) q2780 (Or.inl qs72) zl_DebateHallModel zk_X4_whyOf (Or.inl rfl) zy_X4_whyOf rfl (by decide) (by decide) hL (ok_X4_whyOf (zz_hl C) hw) (Nat.zero_le _) (Nat.zero_le _) (zz_cat10 _ (Nat.le_of_ble_eq_true rfl)) (fun r16 M17 hw => zz_kI hw (fun x20 hw => ?_)) (fun _ _ _ h9 => h9.elim) rfl
      refine zz_i2l C dX4_digest_140 ?_
      refine zz_ladd C dX4_digest_141 ?_
      refine zz_ldc2 C dX4_digest_142 q2860 ?_
      refine zz_lmul C dX4_digest_145 ?_
      refine zz_aload_n C dX4_digest_146 rfl 0 rfl ?_
      refine zz_iload_n C dX4_digest_147 rfl 2 rfl ?_
      obtain ⟨a9, t9, b9, fs9, hro, hL, rfl, hw⟩ := ztyS hw
      refine zz_callV (r := (zR_16, zT_16, 24)) (As := [.int v3]) (rest := [.long (((v1 * (31 : Int64)) + x20.toInt64) * (31 : Int64))]) (mc := 0) (ms := 0) C hR hro dX4_digest_148 (Or.inl q2786) q2788 (Or.inl qs73) zl_DebateHallModel zk_X4_farOf (Or.inl rfl) zy_X4_farOf rfl (by decide) (by decide) hL (ok_X4_farOf (zz_hl C) hw) (Nat.zero_le _) (Nat.zero_le _) (zz_cat10 _ (Nat.le_of_ble_eq_true rfl)) (fun r21 M22 hw => zz_kI hw (fun x25 hw => ?_)) (fun _ _ _ h9 => h9.elim) rfl
      refine zz_i2l C dX4_digest_151 ?_
      refine zz_ladd C dX4_digest_152 ?_
      refine zz_lstore_n (i := 1) (lv' := [(1, .long ((((v1 * (31 : Int64)) + x20.toInt64) * (31 : Int64)) + x25.toInt64)), (0, va_rf v0), (3, .int v3), (4, .int v4)]) C dX4_digest_153 rfl (by decide) (by simp [zz_cat, zz_catI, zz_catJ, zz_catD]) ?_
      refine zz_iinc (lv' := [(3, .int (v3 + 1)), (1, .long ((((v1 * (31 : Int64)) + x20.toInt64) * (31 : Int64)) + x25.toInt64)), (0, va_rf v0), (4, .int v4)]) C dX4_digest_154 2 rfl (by rfl) (by decide) rfl ?_
      refine zz_goto (tgt := 88) C dX4_digest_157 (by decide) ?_
      refine zz_subP [2, 1, 0] rfl ?_
      exact hk88 _ _ _ _ _ _ hw
    · refine zz_lload_n C dX4_digest_109 rfl 1 rfl ?_
      refine zz_ldc2 C dX4_digest_110 q2860 ?_
      refine zz_lmul C dX4_digest_113 ?_
      refine zz_aload_n C dX4_digest_114 rfl 0 rfl ?_
      refine zz_iload_n C dX4_digest_115 rfl 2 rfl ?_
      refine zz_iload C dX4_digest_116 3 rfl ?_
      obtain ⟨a9, t9, b9, fs9, hro, hL, rfl, hw⟩ := ztyS hw
      refine zz_callV (r := (zR_16, zT_16, 24)) (As := [.int v3, .int v4]) (rest := [.long (v1 * (31 : Int64))]) (mc := 0) (ms := 0) C hR hro dX4_digest_118 (Or.inl q2762) q2764 (Or.inl qs70) zl_DebateHallModel zk_X4_itemTold (Or.inl rfl) zy_X4_itemTold rfl (by decide) (by decide) hL (ok_X4_itemTold (zz_hl C) hw) (Nat.zero_le _) (Nat.zero_le _) (zz_cat10 _ (Nat.le_of_ble_eq_true rfl)) (fun r26 M27 hw => zz_kI hw (fun x30 hw => ?_)) (fun _ _ _ h9 => h9.elim) rfl
      refine zz_i2l C dX4_digest_121 ?_
      refine zz_ladd C dX4_digest_122 ?_
      refine zz_lstore_n (i := 1) (lv' := [(1, .long ((v1 * (31 : Int64)) + x30.toInt64)), (0, va_rf v0), (3, .int v3), (4, .int v4)]) C dX4_digest_123 rfl (by decide) (by simp [zz_cat, zz_catI, zz_catJ, zz_catD]) ?_
      refine zz_iinc (lv' := [(4, .int (v4 + 1)), (1, .long ((v1 * (31 : Int64)) + x30.toInt64)), (0, va_rf v0), (3, .int v3)]) C dX4_digest_124 3 rfl (by rfl) (by decide) rfl ?_
      refine zz_goto (tgt := 102) C dX4_digest_127 (by decide) ?_
      refine zz_subP [2, 1, 3, 0] rfl ?_
      exact ih _ _ _ _ _ _ _ hw
theorem ok_X4_digest_L162 {G : zzX} (C : zz_C G cX4_digest "DebateHallModel" 5) {K : Option Value → zzM → Prop} (E : zz_E G (some .long) K (fun _ _ _ => False)) (hH : zz_H G []) (hR : zz_Rm G 5) : ∀ (n : Nat) (v0 : Option Nat) (v1 : Int64) (v3 : Int32) (M : zzM) (bc bs : Nat), wp_X4_digest_L162 (zz_Zof G) K n v0 v1 v3 M bc bs → zz_T G 5 M bc bs 162 [(0, va_rf v0), (1, .long v1), (3, .int v3)] [] := by
  intro n
  induction n with
  | zero =>
    intro v0 v1 v3 M bc bs hw
    exact False.elim hw
  | succ n ih =>
    intro v0 v1 v3 M bc bs hw
    refine zz_iload_n C dX4_digest_162 rfl 2 rfl ?_
    refine zz_aload_n C dX4_digest_163 rfl 0 rfl ?_
    refine zz_getI C dX4_digest_164 (Or.inl q2440) zf_16_4_ebateHallModel hw (fun x31 hw => ?_)
    refine zz_icmp_ge (tgt := 190) C dX4_digest_167 (by decide) hw (fun hw => ?_) (fun hw => ?_)
    · refine zz_lload_n C dX4_digest_190 rfl 1 rfl ?_
      exact zz_lret C E dX4_digest_191 hw
    · refine zz_lload_n C dX4_digest_170 rfl 1 rfl ?_
      refine zz_ldc2 C dX4_digest_171 q2860 ?_
      refine zz_lmul C dX4_digest_174 ?_
      refine zz_aload_n C dX4_digest_175 rfl 0 rfl ?_
      refine zz_getA C dX4_digest_176 (Or.inl q2441) zf_16_5_ebateHallModel hw (fun x32 hw => ?_)
      refine zz_iload_n C dX4_digest_179 rfl 2 rfl ?_
      refine zz_iald C dX4_digest_180 hw (fun x33 hw => ?_)
      refine zz_i2l C dX4_digest_181 ?_
      refine zz_ladd C dX4_digest_182 ?_
      refine zz_lstore_n (i := 1) (lv' := [(1, .long ((v1 * (31 : Int64)) + x33.toInt64)), (0, va_rf v0), (3, .int v3)]) C dX4_digest_183 rfl (by decide) (by simp [zz_cat, zz_catI, zz_catJ, zz_catD]) ?_
      refine zz_iinc (lv' := [(3, .int (v3 + 1)), (1, .long ((v1 * (31 : Int64)) + x33.toInt64)), (0, va_rf v0)]) C dX4_digest_184 2 rfl (by rfl) (by decide) rfl ?_
      refine zz_goto (tgt := 162) C dX4_digest_187 (by decide) ?_
      refine zz_subP [2, 1, 0] rfl ?_
      exact ih _ _ _ _ _ _ hw
theorem ok_X4_digest_L88 {G : zzX} (C : zz_C G cX4_digest "DebateHallModel" 5) {K : Option Value → zzM → Prop} (E : zz_E G (some .long) K (fun _ _ _ => False)) (hH : zz_H G []) (hR : zz_Rm G 5) : ∀ (n : Nat) (v0 : Option Nat) (v1 : Int64) (v3 : Int32) (M : zzM) (bc bs : Nat), wp_X4_digest_L88 (zz_Zof G) K n v0 v1 v3 M bc bs → zz_T G 5 M bc bs 88 [(0, va_rf v0), (1, .long v1), (3, .int v3)] [] := by
  intro n
  induction n with
  | zero =>
    intro v0 v1 v3 M bc bs hw
    exact False.elim hw
  | succ n ih =>
    intro v0 v1 v3 M bc bs hw
    refine zz_iload_n C dX4_digest_88 rfl 2 rfl ?_
    refine zz_aload_n C dX4_digest_89 rfl 0 rfl ?_
    refine zz_getA C dX4_digest_90 (Or.inl q2447) zf_16_11_ebateHallModel hw (fun x14 hw => ?_)
    refine zz_getI C dX4_digest_93 (Or.inr ⟨_, q2394⟩) zf_17_3_allModel_State hw (fun x15 hw => ?_)
    refine zz_icmp_ge (tgt := 160) C dX4_digest_96 (by decide) hw (fun hw => ?_) (fun hw => ?_)
    · refine zz_iconst (v := (0 : Int32)) C dX4_digest_160 (by decide) ?_
      refine zz_istore_n (i := 3) (lv' := [(3, .int (0 : Int32)), (0, va_rf v0), (1, .long v1)]) C dX4_digest_161 rfl (by decide) rfl ?_
      refine zz_subP [1, 2, 0] rfl ?_
      obtain ⟨n162, hw⟩ := hw
      exact ok_X4_digest_L162 C E hH hR n162 _ _ _ _ _ _ hw
    · refine zz_iconst (v := (0 : Int32)) C dX4_digest_99 (by decide) ?_
      refine zz_istore (lv' := [(4, .int (0 : Int32)), (0, va_rf v0), (1, .long v1), (3, .int v3)]) C dX4_digest_100 (by decide) rfl ?_
      refine zz_subP [1, 2, 3, 0] rfl ?_
      obtain ⟨n102, hw⟩ := hw
      exact ok_X4_digest_L102 C E hH hR (fun z0 z1 z2 z3 z4 z5 hw => ih z0 z1 z2 z3 z4 z5 hw) n102 _ _ _ _ _ _ _ hw
theorem ok_X4_digest_L38 {G : zzX} (C : zz_C G cX4_digest "DebateHallModel" 5) {K : Option Value → zzM → Prop} (E : zz_E G (some .long) K (fun _ _ _ => False)) (hH : zz_H G []) (hR : zz_Rm G 5) : ∀ (n : Nat) (v0 : Option Nat) (v1 : Int64) (v3 : Int32) (M : zzM) (bc bs : Nat), wp_X4_digest_L38 (zz_Zof G) K n v0 v1 v3 M bc bs → zz_T G 5 M bc bs 38 [(0, va_rf v0), (1, .long v1), (3, .int v3)] [] := by
  intro n
  induction n with
  | zero =>
    intro v0 v1 v3 M bc bs hw
    exact False.elim hw
  | succ n ih =>
    intro v0 v1 v3 M bc bs hw
    refine zz_iload_n C dX4_digest_38 rfl 2 rfl ?_
    refine zz_aload_n C dX4_digest_39 rfl 0 rfl ?_
    refine zz_getA C dX4_digest_40 (Or.inl q2447) zf_16_11_ebateHallModel hw (fun x7 hw => ?_)
    refine zz_getI C dX4_digest_43 (Or.inr ⟨_, q2388⟩) zf_17_0_allModel_State hw (fun x8 hw => ?_)
    refine zz_icmp_ge (tgt := 86) C dX4_digest_46 (by decide) hw (fun hw => ?_) (fun hw => ?_)
    · refine zz_iconst (v := (0 : Int32)) C dX4_digest_86 (by decide) ?_
      refine zz_istore_n (i := 3) (lv' := [(3, .int (0 : Int32)), (0, va_rf v0), (1, .long v1)]) C dX4_digest_87 rfl (by decide) rfl ?_
      refine zz_subP [1, 2, 0] rfl ?_
      obtain ⟨n88, hw⟩ := hw
      exact ok_X4_digest_L88 C E hH hR n88 _ _ _ _ _ _ hw
    · refine zz_iconst (v := (0 : Int32)) C dX4_digest_49 (by decide) ?_
      refine zz_istore (lv' := [(4, .int (0 : Int32)), (0, va_rf v0), (1, .long v1), (3, .int v3)]) C dX4_digest_50 (by decide) rfl ?_
      refine zz_subP [1, 2, 3, 0] rfl ?_
      obtain ⟨n52, hw⟩ := hw
      exact ok_X4_digest_L52 C E hH hR (fun z0 z1 z2 z3 z4 z5 hw => ih z0 z1 z2 z3 z4 z5 hw) n52 _ _ _ _ _ _ _ hw
theorem ok_X4_digest_L11 {G : zzX} (C : zz_C G cX4_digest "DebateHallModel" 5) {K : Option Value → zzM → Prop} (E : zz_E G (some .long) K (fun _ _ _ => False)) (hH : zz_H G []) (hR : zz_Rm G 5) : ∀ (n : Nat) (v0 : Option Nat) (v1 : Int64) (v3 : Int32) (M : zzM) (bc bs : Nat), wp_X4_digest_L11 (zz_Zof G) K n v0 v1 v3 M bc bs → zz_T G 5 M bc bs 11 [(0, va_rf v0), (1, .long v1), (3, .int v3)] [] := by
  intro n
  induction n with
  | zero =>
    intro v0 v1 v3 M bc bs hw
    exact False.elim hw
  | succ n ih =>
    intro v0 v1 v3 M bc bs hw
    refine zz_iload_n C dX4_digest_11 rfl 2 rfl ?_
    refine zz_bipush (v := (11 : Int32)) C dX4_digest_12 (by decide) ?_
    refine zz_icmp_gt (tgt := 36) C dX4_digest_14 (by decide) hw (fun hw => ?_) (fun hw => ?_)
    · refine zz_iconst (v := (0 : Int32)) C dX4_digest_36 (by decide) ?_
      refine zz_istore_n (i := 3) (lv' := [(3, .int (0 : Int32)), (0, va_rf v0), (1, .long v1)]) C dX4_digest_37 rfl (by decide) rfl ?_
      refine zz_subP [1, 2, 0] rfl ?_
      obtain ⟨n38, hw⟩ := hw
      exact ok_X4_digest_L38 C E hH hR n38 _ _ _ _ _ _ hw
    · refine zz_lload_n C dX4_digest_17 rfl 1 rfl ?_
      refine zz_ldc2 C dX4_digest_18 q2860 ?_
      refine zz_lmul C dX4_digest_21 ?_
      refine zz_aload_n C dX4_digest_22 rfl 0 rfl ?_
      refine zz_iload_n C dX4_digest_23 rfl 2 rfl ?_
      obtain ⟨a9, t9, b9, fs9, hro, hL, rfl, hw⟩ := ztyS hw
      obtain ⟨c9, s9, hc9, hs9, hw⟩ := hw
      refine zz_callV (r := (zR_16, zT_16, 24)) (As := [.int v3]) (rest := [.long (v1 * (31 : Int64))]) C hR hro dX4_digest_24 (Or.inl q2728) q2730 (Or.inl qs64) zl_DebateHallModel zk_X4_counted (Or.inl rfl) zy_X4_counted rfl (by decide) (by decide) hL (ok_X4_counted (zz_hl C) hw) hc9 hs9 (zz_cat10 _ (Nat.le_of_ble_eq_true rfl)) (fun r2 M3 hw => zz_kI hw (fun x6 hw => ?_)) (fun _ _ _ h9 => h9.elim) rfl
      refine zz_i2l C dX4_digest_27 ?_
      refine zz_ladd C dX4_digest_28 ?_
      refine zz_lstore_n (i := 1) (lv' := [(1, .long ((v1 * (31 : Int64)) + x6.toInt64)), (0, va_rf v0), (3, .int v3)]) C dX4_digest_29 rfl (by decide) (by simp [zz_cat, zz_catI, zz_catJ, zz_catD]) ?_
      refine zz_iinc (lv' := [(3, .int (v3 + 1)), (1, .long ((v1 * (31 : Int64)) + x6.toInt64)), (0, va_rf v0)]) C dX4_digest_30 2 rfl (by rfl) (by decide) rfl ?_
      refine zz_goto (tgt := 11) C dX4_digest_33 (by decide) ?_
      refine zz_subP [2, 1, 0] rfl ?_
      exact ih _ _ _ _ _ _ hw
theorem ok_X4_digest {Z : zzG} {l : Launch} (hl : l.stackTraces = false) {this : Option Nat} {M : zzM} {mc ms : Nat} {K : Option Value → zzM → Prop} (hw : wp_X4_digest Z this M mc ms K) : zz_Met Z l yX4_digest (zz_ws yX4_digest cX4_digest 5 (some .long) none) 5 [va_rf this] M mc ms K (fun _ _ _ => False) := by
  refine zz_ofW hl (plainFor_of_name (by decide)) (by simp only [zz_sl0, zz_slI, zz_slJ, zz_slA] <;> decide) (fun G hZ hll C E hH hR hin => ?_)
  subst hZ
  subst hll
  rw [show lv_args 0 [va_rf this] = [(0, va_rf this)] by simp only [zz_la0, zz_laI, zz_laJ, zz_laA]]
  unfold wp_X4_digest at hw
  refine zz_aload_n C dX4_digest_0 rfl 0 rfl ?_
  refine zz_iconst (v := (0 : Int32)) C dX4_digest_1 (by decide) ?_
  refine zz_put C dX4_digest_2 (Or.inl q2436) zf_16_0_ebateHallModel zp_16_0 (zz_hn1 ⟨rfl, rfl⟩) hw (fun M1 hw => ?_)
  refine zz_ldc2 C dX4_digest_5 q2859 ?_
  refine zz_lstore_n (i := 1) (lv' := [(1, .long (719 : Int64)), (0, va_rf this)]) C dX4_digest_8 rfl (by decide) (by simp [zz_cat, zz_catI, zz_catJ, zz_catD]) ?_
  refine zz_iconst (v := (0 : Int32)) C dX4_digest_9 (by decide) ?_
  refine zz_istore_n (i := 3) (lv' := [(3, .int (0 : Int32)), (1, .long (719 : Int64)), (0, va_rf this)]) C dX4_digest_10 rfl (by decide) rfl ?_
  refine zz_subP [2, 1, 0] rfl ?_
  obtain ⟨n11, hw⟩ := hw
  exact ok_X4_digest_L11 C E hH hR n11 _ _ _ _ _ _ hw
abbrev cX1_share : ByteArray := prog_1_method_35_code
def yX1_share : MethodName := ⟨"DebateHall", "share", "()D"⟩
def dkwX1_share_3 : List UInt8 := [182, 0, 155, 61, 28, 154, 0, 7, 14, 167, 0, 8, 27, 135, 28, 135, 111, 175]
abbrev dktX1_share_3 : List UInt8 := dkwX1_share_3 ++ []
def dkwX1_share_2 : List UInt8 := [45, 182, 0, 242, 153, 0, 7, 4, 167, 0, 4, 3, 96, 60, 167, 255, 208, 42, 178, 0, 150, 2]
abbrev dktX1_share_2 : List UInt8 := dkwX1_share_2 ++ dktX1_share_3
def dkwX1_share_1 : List UInt8 := [185, 0, 116, 1, 0, 192, 0, 68, 78, 27, 45, 180, 0, 139, 178, 0, 150, 166, 0, 18, 42, 180, 0, 36]
abbrev dktX1_share_1 : List UInt8 := dkwX1_share_1 ++ dktX1_share_2
def dkwX1_share_0 : List UInt8 := [3, 60, 42, 180, 0, 36, 180, 0, 61, 182, 0, 138, 77, 44, 185, 0, 110, 1, 0, 153, 0, 45, 44]
abbrev dktX1_share_0 : List UInt8 := dkwX1_share_0 ++ dktX1_share_1
theorem dksX1_share_0 : cX1_share.data.toList.drop 0 = dktX1_share_0 := by decide +kernel
theorem dksX1_share_1 : cX1_share.data.toList.drop 23 = dktX1_share_1 := dk_seg dksX1_share_0 23 rfl rfl
theorem dksX1_share_2 : cX1_share.data.toList.drop 47 = dktX1_share_2 := dk_seg dksX1_share_1 24 rfl rfl
theorem dksX1_share_3 : cX1_share.data.toList.drop 69 = dktX1_share_3 := dk_seg dksX1_share_2 22 rfl rfl
theorem dX1_share_0 : decode cX1_share 0 = .ok (.iconst 0, 1) := dk_3 (dk_at dksX1_share_0 0 rfl rfl)
theorem dX1_share_1 : decode cX1_share 1 = .ok (.istore_n 1, 1) := dk_60 (dk_at dksX1_share_0 1 rfl rfl)
theorem dX1_share_2 : decode cX1_share 2 = .ok (.aload_n 0, 1) := dk_42 (dk_at dksX1_share_0 2 rfl rfl)
theorem dX1_share_3 : decode cX1_share 3 = .ok (.getfield 36, 3) := dk_180 0 36 (dk_at dksX1_share_0 3 rfl rfl)
theorem dX1_share_6 : decode cX1_share 6 = .ok (.getfield 61, 3) := dk_180 0 61 (dk_at dksX1_share_0 6 rfl rfl)
theorem dX1_share_9 : decode cX1_share 9 = .ok (.invokevirtual 138, 3) := dk_182 0 138 (dk_at dksX1_share_0 9 rfl rfl)
theorem dX1_share_12 : decode cX1_share 12 = .ok (.astore_n 2, 1) := dk_77 (dk_at dksX1_share_0 12 rfl rfl)
theorem dX1_share_13 : decode cX1_share 13 = .ok (.aload_n 2, 1) := dk_44 (dk_at dksX1_share_0 13 rfl rfl)
theorem dX1_share_14 : decode cX1_share 14 = .ok (.invokeinterface 110 1, 5) := by decide +kernel
theorem dX1_share_19 : decode cX1_share 19 = .ok (.ifCond .eq 45, 3) := dk_153 0 45 (dk_at dksX1_share_0 19 rfl rfl)
theorem dX1_share_22 : decode cX1_share 22 = .ok (.aload_n 2, 1) := dk_44 (dk_at dksX1_share_0 22 rfl rfl)
theorem dX1_share_23 : decode cX1_share 23 = .ok (.invokeinterface 116 1, 5) := by decide +kernel
theorem dX1_share_28 : decode cX1_share 28 = .ok (.checkcast 68, 3) := dk_192 0 68 (dk_at dksX1_share_1 5 rfl rfl)
theorem dX1_share_31 : decode cX1_share 31 = .ok (.astore_n 3, 1) := dk_78 (dk_at dksX1_share_1 8 rfl rfl)
theorem dX1_share_32 : decode cX1_share 32 = .ok (.iload_n 1, 1) := dk_27 (dk_at dksX1_share_1 9 rfl rfl)
theorem dX1_share_33 : decode cX1_share 33 = .ok (.aload_n 3, 1) := dk_45 (dk_at dksX1_share_1 10 rfl rfl)
theorem dX1_share_34 : decode cX1_share 34 = .ok (.getfield 139, 3) := dk_180 0 139 (dk_at dksX1_share_1 11 rfl rfl)
theorem dX1_share_37 : decode cX1_share 37 = .ok (.getstatic 150, 3) := dk_178 0 150 (dk_at dksX1_share_1 14 rfl rfl)
theorem dX1_share_40 : decode cX1_share 40 = .ok (.if_acmp .ne 18, 3) := dk_166 0 18 (dk_at dksX1_share_1 17 rfl rfl)
theorem dX1_share_43 : decode cX1_share 43 = .ok (.aload_n 0, 1) := dk_42 (dk_at dksX1_share_1 20 rfl rfl)
theorem dX1_share_44 : decode cX1_share 44 = .ok (.getfield 36, 3) := dk_180 0 36 (dk_at dksX1_share_1 21 rfl rfl)
theorem dX1_share_47 : decode cX1_share 47 = .ok (.aload_n 3, 1) := dk_45 (dk_at dksX1_share_2 0 rfl rfl)
theorem dX1_share_48 : decode cX1_share 48 = .ok (.invokevirtual 242, 3) := dk_182 0 242 (dk_at dksX1_share_2 1 rfl rfl)
theorem dX1_share_51 : decode cX1_share 51 = .ok (.ifCond .eq 7, 3) := dk_153 0 7 (dk_at dksX1_share_2 4 rfl rfl)
theorem dX1_share_54 : decode cX1_share 54 = .ok (.iconst 1, 1) := dk_4 (dk_at dksX1_share_2 7 rfl rfl)
theorem dX1_share_55 : decode cX1_share 55 = .ok (.goto 4, 3) := dk_167 0 4 (dk_at dksX1_share_2 8 rfl rfl)
theorem dX1_share_58 : decode cX1_share 58 = .ok (.iconst 0, 1) := dk_3 (dk_at dksX1_share_2 11 rfl rfl)
theorem dX1_share_59 : decode cX1_share 59 = .ok (.iadd, 1) := dk_96 (dk_at dksX1_share_2 12 rfl rfl)
theorem dX1_share_60 : decode cX1_share 60 = .ok (.istore_n 1, 1) := dk_60 (dk_at dksX1_share_2 13 rfl rfl)
theorem dX1_share_61 : decode cX1_share 61 = .ok (.goto (-48), 3) := dk_167 255 208 (dk_at dksX1_share_2 14 rfl rfl)
theorem dX1_share_64 : decode cX1_share 64 = .ok (.aload_n 0, 1) := dk_42 (dk_at dksX1_share_2 17 rfl rfl)
theorem dX1_share_65 : decode cX1_share 65 = .ok (.getstatic 150, 3) := dk_178 0 150 (dk_at dksX1_share_2 18 rfl rfl)
theorem dX1_share_68 : decode cX1_share 68 = .ok (.iconst (-1), 1) := dk_2 (dk_at dksX1_share_2 21 rfl rfl)
theorem dX1_share_69 : decode cX1_share 69 = .ok (.invokevirtual 155, 3) := dk_182 0 155 (dk_at dksX1_share_3 0 rfl rfl)
theorem dX1_share_72 : decode cX1_share 72 = .ok (.istore_n 2, 1) := dk_61 (dk_at dksX1_share_3 3 rfl rfl)
theorem dX1_share_73 : decode cX1_share 73 = .ok (.iload_n 2, 1) := dk_28 (dk_at dksX1_share_3 4 rfl rfl)
theorem dX1_share_74 : decode cX1_share 74 = .ok (.ifCond .ne 7, 3) := dk_154 0 7 (dk_at dksX1_share_3 5 rfl rfl)
theorem dX1_share_77 : decode cX1_share 77 = .ok (.dconst 0, 1) := dk_14 (dk_at dksX1_share_3 8 rfl rfl)
theorem dX1_share_78 : decode cX1_share 78 = .ok (.goto 8, 3) := dk_167 0 8 (dk_at dksX1_share_3 9 rfl rfl)
theorem dX1_share_81 : decode cX1_share 81 = .ok (.iload_n 1, 1) := dk_27 (dk_at dksX1_share_3 12 rfl rfl)
theorem dX1_share_82 : decode cX1_share 82 = .ok (.i2d, 1) := dk_135 (dk_at dksX1_share_3 13 rfl rfl)
theorem dX1_share_83 : decode cX1_share 83 = .ok (.iload_n 2, 1) := dk_28 (dk_at dksX1_share_3 14 rfl rfl)
theorem dX1_share_84 : decode cX1_share 84 = .ok (.i2d, 1) := dk_135 (dk_at dksX1_share_3 15 rfl rfl)
theorem dX1_share_85 : decode cX1_share 85 = .ok (.ddiv, 1) := dk_111 (dk_at dksX1_share_3 16 rfl rfl)
theorem dX1_share_86 : decode cX1_share 86 = .ok (.dreturn, 1) := dk_175 (dk_at dksX1_share_3 17 rfl rfl)
theorem q2117 : (Jvm.Cond.methodLinkNest "DebateHall" (242 : Nat) ({ cls := "DebateHall$Minutes", name := "isIn", desc := "(LDebateHall$Item;)Z" } : Jvm.MethodName) "DebateHall") ∈ lw_tbl := lw_at lw_m9 117 rfl
def wp_X1_share_B59 (Z : zzG) (k13 : Option Nat → Int32 → Option Nat → zzM → Nat → Nat → Prop) (K : Option Value → zzM → Prop) (v0 : Option Nat) (v2 : Option Nat) (s0 : Int32) (s1 : Int32) (M : zzM) (bc bs : Nat) : Prop := k13 v0 (s1 + s0) v2 M bc bs
def wp_X1_share_B58 (Z : zzG) (k13 : Option Nat → Int32 → Option Nat → zzM → Nat → Nat → Prop) (K : Option Value → zzM → Prop) (v0 : Option Nat) (v2 : Option Nat) (s0 : Int32) (M : zzM) (bc bs : Nat) : Prop := wp_X1_share_B59 Z k13 K v0 v2 (0 : Int32) s0 M bc bs
def wp_X1_share_B86 (Z : zzG) (K : Option Value → zzM → Prop) (s0 : UInt64) (M : zzM) (bc bs : Nat) : Prop := K (some (.double s0)) M
def wp_X1_share_L13 (Z : zzG) (K : Option Value → zzM → Prop) : Nat → Option Nat → Int32 → Option Nat → zzM → Nat → Nat → Prop
  | 0, _, _, _, _, _, _ => False
  | n + 1, v0, v1, v2, M, bc, bs => zty Z M v2 fun t => t = 23 ∧ wp_J24_hasNext Z v2 M (fun r8 M9 => zrI r8 fun x12 => if x12 = 0 then (zty Z M9 v0 fun t => t = 0 ∧ zcc bc bs (fun c s k => wp_X1_of Z v0 (some (zz_ad Z 8)) (-1 : Int32) M9 c s k) fun r13 M14 bc15 bs16 => zrI r13 fun x17 => if x17 = 0 then (wp_X1_share_B86 Z K FP.dconst0 M14 bc15 bs16) else (vf_n64 (FP.ddiv (FP.i2d v1) (FP.i2d x17)) ∧ wp_X1_share_B86 Z K (FP.ddiv (FP.i2d v1) (FP.i2d x17)) M14 bc15 bs16)) else (zty Z M9 v2 fun t => t = 23 ∧ wp_J24_next Z v2 M9 (fun r18 M19 => zrA r18 fun x22 => zcast Z M19 x22 [15] <| zgA Z M19 x22 [15] 1 fun x23 => if x23 = (some (zz_ad Z 8)) then (zgA Z M19 v0 [0] 2 fun x24 => zty Z M19 x24 fun t => t = 2 ∧ wp_X3_isIn Z x24 x22 M19 (fun r25 M26 => zrI r25 fun x29 => if x29 = 0 then (wp_X1_share_B58 Z (wp_X1_share_L13 Z K n) K v0 v2 v1 M26 bc bs) else (wp_X1_share_B59 Z (wp_X1_share_L13 Z K n) K v0 v2 (1 : Int32) v1 M26 bc bs))) else (wp_X1_share_B58 Z (wp_X1_share_L13 Z K n) K v0 v2 v1 M19 bc bs))))
def wp_X1_share (Z : zzG) (this : Option Nat) (M : zzM) (bc bs : Nat) (K : Option Value → zzM → Prop) : Prop := zgA Z M this [0] 2 fun x1 => zgA Z M x1 [2] 1 fun x2 => zty Z M x2 fun t => t = 18 ∧ zcc bc bs (fun c s k => wp_J2_iterator Z x2 M c s k) fun r3 M4 bc5 bs6 => zrA r3 fun x7 => ∃ n13 : Nat, wp_X1_share_L13 Z K n13 this (0 : Int32) x7 M4 bc5 bs6
theorem ok_X1_share_B59 {G : zzX} (C : zz_C G cX1_share "DebateHall" 4) {K : Option Value → zzM → Prop} (E : zz_E G (some .double) K (fun _ _ _ => False)) (hH : zz_H G []) (hR : zz_Rm G 5) {k13 : Option Nat → Int32 → Option Nat → zzM → Nat → Nat → Prop} (hk13 : ∀ (z0 : Option Nat) (z1 : Int32) (z2 : Option Nat) (M : zzM) (bc bs : Nat), k13 z0 z1 z2 M bc bs → zz_T G 4 M bc bs 13 [(0, va_rf z0), (1, .int z1), (2, va_rf z2)] []) {v0 : Option Nat} {v2 : Option Nat} {s0 : Int32} {s1 : Int32} {M : zzM} {bc bs : Nat} (hw : wp_X1_share_B59 (zz_Zof G) k13 K v0 v2 s0 s1 M bc bs) : zz_T G 4 M bc bs 59 [(0, va_rf v0), (2, va_rf v2)] [.int s0, .int s1] := by
  unfold wp_X1_share_B59 at hw
  refine zz_iadd C dX1_share_59 ?_
  refine zz_istore_n (i := 1) (lv' := [(1, .int (s1 + s0)), (0, va_rf v0), (2, va_rf v2)]) C dX1_share_60 rfl (by decide) (by simp [zz_cat, zz_catI, zz_catJ, zz_catD]) ?_
  refine zz_goto (tgt := 13) C dX1_share_61 (by decide) ?_
  refine zz_subP [1, 0, 2] rfl ?_
  exact hk13 _ _ _ _ _ _ hw
theorem ok_X1_share_B58 {G : zzX} (C : zz_C G cX1_share "DebateHall" 4) {K : Option Value → zzM → Prop} (E : zz_E G (some .double) K (fun _ _ _ => False)) (hH : zz_H G []) (hR : zz_Rm G 5) {k13 : Option Nat → Int32 → Option Nat → zzM → Nat → Nat → Prop} (hk13 : ∀ (z0 : Option Nat) (z1 : Int32) (z2 : Option Nat) (M : zzM) (bc bs : Nat), k13 z0 z1 z2 M bc bs → zz_T G 4 M bc bs 13 [(0, va_rf z0), (1, .int z1), (2, va_rf z2)] []) {v0 : Option Nat} {v2 : Option Nat} {s0 : Int32} {M : zzM} {bc bs : Nat} (hw : wp_X1_share_B58 (zz_Zof G) k13 K v0 v2 s0 M bc bs) : zz_T G 4 M bc bs 58 [(0, va_rf v0), (2, va_rf v2)] [.int s0] := by
  unfold wp_X1_share_B58 at hw
  refine zz_iconst (v := (0 : Int32)) C dX1_share_58 (by decide) ?_
  refine zz_subP [0, 1] rfl ?_
  exact ok_X1_share_B59 C E hH hR hk13 hw
theorem ok_X1_share_B86 {G : zzX} (C : zz_C G cX1_share "DebateHall" 4) {K : Option Value → zzM → Prop} (E : zz_E G (some .double) K (fun _ _ _ => False)) (hH : zz_H G []) (hR : zz_Rm G 5) {s0 : UInt64} {M : zzM} {bc bs : Nat} (hw : wp_X1_share_B86 (zz_Zof G) K s0 M bc bs) : zz_T G 4 M bc bs 86 [] [.double s0] := by
  unfold wp_X1_share_B86 at hw
  exact zz_dret C E dX1_share_86 hw
theorem ok_X1_share_L13 {G : zzX} (C : zz_C G cX1_share "DebateHall" 4) {K : Option Value → zzM → Prop} (E : zz_E G (some .double) K (fun _ _ _ => False)) (hH : zz_H G []) (hR : zz_Rm G 5) : ∀ (n : Nat) (v0 : Option Nat) (v1 : Int32) (v2 : Option Nat) (M : zzM) (bc bs : Nat), wp_X1_share_L13 (zz_Zof G) K n v0 v1 v2 M bc bs → zz_T G 4 M bc bs 13 [(0, va_rf v0), (1, .int v1), (2, va_rf v2)] [] := by
  intro n
  induction n with
  | zero =>
    intro v0 v1 v2 M bc bs hw
    exact False.elim hw
  | succ n ih =>
    intro v0 v1 v2 M bc bs hw
    refine zz_aload_n C dX1_share_13 rfl 2 rfl ?_
    obtain ⟨a9, t9, b9, fs9, hro, hL, rfl, hw⟩ := ztyS hw
    refine zz_callF (r := (zR_23, zT_23, 4)) (x := ⟨"java/util/Iterator", "hasNext", "()Z"⟩) (As := []) (rest := []) (mc := 0) (ms := 0) C hR hro dX1_share_14 q1793 (by decide +kernel) q1174 q1172 zl_java_util_ArrayList_Itr zk_J24_hasNext zyo_java_util_Iterator_hasNext___Z rfl (by decide) (by decide) hL (ok_J24_hasNext (zz_hl C) hw) (Nat.zero_le _) (Nat.zero_le _) (zz_cat10 _ (Nat.le_of_ble_eq_true rfl)) (fun r8 M9 hw => zz_kI hw (fun x12 hw => ?_)) (fun _ _ _ h9 => h9.elim) rfl
    refine zz_if_eq (tgt := 64) C dX1_share_19 (by decide) hw (fun hw => ?_) (fun hw => ?_)
    · refine zz_aload_n C dX1_share_64 rfl 0 rfl ?_
      refine zz_gets (j := 8) (v := va_rf (some (zz_ad (zz_Zof G) 8))) C dX1_share_65 (Or.inl q2116) rfl (Or.inl rfl) rfl ?_
      refine zz_iconst (v := (-1 : Int32)) C dX1_share_68 (by decide) ?_
      obtain ⟨a9, t9, b9, fs9, hro, hL, rfl, hw⟩ := ztyS hw
      obtain ⟨c9, s9, hc9, hs9, hw⟩ := hw
      refine zz_callV (r := (zR_0, zT_0, 4)) (As := [va_rf (some (zz_ad (zz_Zof G) 8)), .int (-1 : Int32)]) (rest := []) C hR hro dX1_share_69 (Or.inl q2118) q2120 (Or.inl qs22) zl_DebateHall zk_X1_of (Or.inl rfl) zy_X1_of rfl (by decide) (by decide) hL (ok_X1_of (zz_hl C) hw) hc9 hs9 (zz_cat10 _ (Nat.le_of_ble_eq_true rfl)) (fun r13 M14 hw => zz_kI hw (fun x17 hw => ?_)) (fun _ _ _ h9 => h9.elim) rfl
      refine zz_istore_n (i := 2) (lv' := [(2, .int x17), (0, va_rf v0), (1, .int v1)]) C dX1_share_72 rfl (by decide) rfl ?_
      refine zz_iload_n C dX1_share_73 rfl 0 rfl ?_
      refine zz_if_ne (tgt := 81) C dX1_share_74 (by decide) hw (fun hw => ?_) (fun hw => ?_)
      · refine zz_iload_n C dX1_share_81 rfl 2 rfl ?_
        refine zz_i2d C dX1_share_82 ?_
        refine zz_iload_n C dX1_share_83 rfl 0 rfl ?_
        refine zz_i2d C dX1_share_84 ?_
        obtain ⟨hne, hw⟩ := hw
        refine zz_ddiv C dX1_share_85 hne ?_
        refine zz_subP [] rfl ?_
        exact ok_X1_share_B86 C E hH hR hw
      · refine zz_dconst0 C dX1_share_77 ?_
        refine zz_goto (tgt := 86) C dX1_share_78 (by decide) ?_
        refine zz_subP [] rfl ?_
        exact ok_X1_share_B86 C E hH hR hw
    · refine zz_aload_n C dX1_share_22 rfl 2 rfl ?_
      obtain ⟨a9, t9, b9, fs9, hro, hL, rfl, hw⟩ := ztyS hw
      refine zz_callF (r := (zR_23, zT_23, 4)) (x := ⟨"java/util/Iterator", "next", "()Ljava/lang/Object;"⟩) (As := []) (rest := []) (mc := 0) (ms := 0) C hR hro dX1_share_23 q1795 (by decide +kernel) q1183 q1181 zl_java_util_ArrayList_Itr zk_J24_next zyo_java_util_Iterator_next___Ljava_lang_Object_ rfl (by decide) (by decide) hL (ok_J24_next (zz_hl C) hw) (Nat.zero_le _) (Nat.zero_le _) (zz_cat10 _ (Nat.le_of_ble_eq_true rfl)) (fun r18 M19 hw => zz_kA hw (fun x22 hw => ?_)) (fun _ _ _ h9 => h9.elim) rfl
      refine zz_cast C dX1_share_28 q2105 zc_15_ebateHall_Item hw (fun hw => ?_)
      refine zz_astore_n (i := 3) (lv' := [(3, va_rf x22), (0, va_rf v0), (1, .int v1), (2, va_rf v2)]) C dX1_share_31 rfl (by decide) (by simp [zz_cat, zz_catI, zz_catJ, zz_catD]) ?_
      refine zz_iload_n C dX1_share_32 rfl 2 rfl ?_
      refine zz_aload_n C dX1_share_33 rfl 0 rfl ?_
      refine zz_getA C dX1_share_34 (Or.inr ⟨_, q1741⟩) zf_15_1_ebateHall_Item hw (fun x23 hw => ?_)
      refine zz_gets (j := 8) (v := va_rf (some (zz_ad (zz_Zof G) 8))) C dX1_share_37 (Or.inl q2116) rfl (Or.inl rfl) rfl ?_
      refine zz_acmp_ne (tgt := 58) C dX1_share_40 (by decide) hw (fun hw => ?_) (fun hw => ?_)
      · refine zz_subP [1, 3] rfl ?_
        exact ok_X1_share_B58 C E hH hR (fun z0 z1 z2 z3 z4 z5 hw => ih z0 z1 z2 z3 z4 z5 hw) hw
      · refine zz_aload_n C dX1_share_43 rfl 1 rfl ?_
        refine zz_getA C dX1_share_44 (Or.inl q305) zf_0_2_DebateHall hw (fun x24 hw => ?_)
        refine zz_aload_n C dX1_share_47 rfl 0 rfl ?_
        obtain ⟨a9, t9, b9, fs9, hro, hL, rfl, hw⟩ := ztyS hw
        refine zz_callV (r := (zR_2, zT_2, 8)) (As := [va_rf x22]) (rest := [.int v1]) (mc := 0) (ms := 0) C hR hro dX1_share_48 (Or.inr ⟨_, q2117⟩) q1944 (Or.inl qs19) zl_DebateHall_Minutes zk_X3_isIn (Or.inl rfl) zy_X3_isIn rfl (by decide) (by decide) hL (ok_X3_isIn (zz_hl C) hw) (Nat.zero_le _) (Nat.zero_le _) (zz_cat10 _ (Nat.le_of_ble_eq_true rfl)) (fun r25 M26 hw => zz_kI hw (fun x29 hw => ?_)) (fun _ _ _ h9 => h9.elim) rfl
        refine zz_if_eq (tgt := 58) C dX1_share_51 (by decide) hw (fun hw => ?_) (fun hw => ?_)
        · refine zz_subP [1, 3] rfl ?_
          exact ok_X1_share_B58 C E hH hR (fun z0 z1 z2 z3 z4 z5 hw => ih z0 z1 z2 z3 z4 z5 hw) hw
        · refine zz_iconst (v := (1 : Int32)) C dX1_share_54 (by decide) ?_
          refine zz_goto (tgt := 59) C dX1_share_55 (by decide) ?_
          refine zz_subP [1, 3] rfl ?_
          exact ok_X1_share_B59 C E hH hR (fun z0 z1 z2 z3 z4 z5 hw => ih z0 z1 z2 z3 z4 z5 hw) hw
theorem ok_X1_share {Z : zzG} {l : Launch} (hl : l.stackTraces = false) {this : Option Nat} {M : zzM} {mc ms : Nat} {K : Option Value → zzM → Prop} (hw : wp_X1_share Z this M mc ms K) : zz_Met Z l yX1_share (zz_ws yX1_share cX1_share 4 (some .double) none) 5 [va_rf this] M mc ms K (fun _ _ _ => False) := by
  refine zz_ofW hl (plainFor_of_name (by decide)) (by simp only [zz_sl0, zz_slI, zz_slJ, zz_slA] <;> decide) (fun G hZ hll C E hH hR hin => ?_)
  subst hZ
  subst hll
  rw [show lv_args 0 [va_rf this] = [(0, va_rf this)] by simp only [zz_la0, zz_laI, zz_laJ, zz_laA]]
  unfold wp_X1_share at hw
  refine zz_iconst (v := (0 : Int32)) C dX1_share_0 (by decide) ?_
  refine zz_istore_n (i := 1) (lv' := [(1, .int (0 : Int32)), (0, va_rf this)]) C dX1_share_1 rfl (by decide) (by simp [zz_cat, zz_catI, zz_catJ, zz_catD]) ?_
  refine zz_aload_n C dX1_share_2 rfl 1 rfl ?_
  refine zz_getA C dX1_share_3 (Or.inl q305) zf_0_2_DebateHall hw (fun x1 hw => ?_)
  refine zz_getA C dX1_share_6 (Or.inr ⟨_, q239⟩) zf_2_1_teHall_Minutes hw (fun x2 hw => ?_)
  obtain ⟨a9, t9, b9, fs9, hro, hL, rfl, hw⟩ := ztyS hw
  obtain ⟨c9, s9, hc9, hs9, hw⟩ := hw
  refine zz_callV (r := (zR_18, zT_18, 3)) (As := []) (rest := []) C hR hro dX1_share_9 (Or.inl q2104) q1145 (Or.inl q1146) zl_java_util_ArrayList zk_J2_iterator (Or.inl rfl) zy_J2_iterator rfl (by decide) (by decide) hL (ok_J2_iterator (zz_hl C) hw) hc9 hs9 (zz_cat10 _ (Nat.le_of_ble_eq_true rfl)) (fun r3 M4 hw => zz_kA hw (fun x7 hw => ?_)) (fun _ _ _ h9 => h9.elim) rfl
  refine zz_astore_n (i := 2) (lv' := [(2, va_rf x7), (1, .int (0 : Int32)), (0, va_rf this)]) C dX1_share_12 rfl (by decide) rfl ?_
  refine zz_subP [2, 1, 0] rfl ?_
  obtain ⟨n13, hw⟩ := hw
  exact ok_X1_share_L13 C E hH hR n13 _ _ _ _ _ _ hw
abbrev cX4_share : ByteArray := prog_25_method_74_code
def yX4_share : MethodName := ⟨"DebateHallModel", "share", "()D"⟩
def dkwX4_share_3 : List UInt8 := [167, 0, 8, 28, 135, 27, 135, 111, 175]
abbrev dktX4_share_3 : List UInt8 := dkwX4_share_3 ++ []
def dkwX4_share_2 : List UInt8 := [4, 160, 0, 7, 4, 167, 0, 4, 3, 96, 61, 132, 3, 1, 167, 255, 206, 27, 154, 0, 7, 14]
abbrev dktX4_share_2 : List UInt8 := dkwX4_share_2 ++ dktX4_share_3
def dkwX4_share_1 : List UInt8 := [180, 0, 48, 180, 0, 124, 29, 46, 153, 0, 6, 167, 0, 24, 132, 1, 1, 28, 42, 180, 0, 55, 29, 46]
abbrev dktX4_share_1 : List UInt8 := dkwX4_share_1 ++ dktX4_share_2
def dkwX4_share_0 : List UInt8 := [42, 3, 181, 0, 85, 3, 60, 3, 61, 3, 62, 29, 42, 180, 0, 48, 180, 0, 95, 162, 0, 45, 42]
abbrev dktX4_share_0 : List UInt8 := dkwX4_share_0 ++ dktX4_share_1
theorem dksX4_share_0 : cX4_share.data.toList.drop 0 = dktX4_share_0 := by decide +kernel
theorem dksX4_share_1 : cX4_share.data.toList.drop 23 = dktX4_share_1 := dk_seg dksX4_share_0 23 rfl rfl
theorem dksX4_share_2 : cX4_share.data.toList.drop 47 = dktX4_share_2 := dk_seg dksX4_share_1 24 rfl rfl
theorem dksX4_share_3 : cX4_share.data.toList.drop 69 = dktX4_share_3 := dk_seg dksX4_share_2 22 rfl rfl
theorem dX4_share_0 : decode cX4_share 0 = .ok (.aload_n 0, 1) := dk_42 (dk_at dksX4_share_0 0 rfl rfl)
theorem dX4_share_1 : decode cX4_share 1 = .ok (.iconst 0, 1) := dk_3 (dk_at dksX4_share_0 1 rfl rfl)
theorem dX4_share_2 : decode cX4_share 2 = .ok (.putfield 85, 3) := dk_181 0 85 (dk_at dksX4_share_0 2 rfl rfl)
theorem dX4_share_5 : decode cX4_share 5 = .ok (.iconst 0, 1) := dk_3 (dk_at dksX4_share_0 5 rfl rfl)
theorem dX4_share_6 : decode cX4_share 6 = .ok (.istore_n 1, 1) := dk_60 (dk_at dksX4_share_0 6 rfl rfl)
theorem dX4_share_7 : decode cX4_share 7 = .ok (.iconst 0, 1) := dk_3 (dk_at dksX4_share_0 7 rfl rfl)
theorem dX4_share_8 : decode cX4_share 8 = .ok (.istore_n 2, 1) := dk_61 (dk_at dksX4_share_0 8 rfl rfl)
theorem dX4_share_9 : decode cX4_share 9 = .ok (.iconst 0, 1) := dk_3 (dk_at dksX4_share_0 9 rfl rfl)
theorem dX4_share_10 : decode cX4_share 10 = .ok (.istore_n 3, 1) := dk_62 (dk_at dksX4_share_0 10 rfl rfl)
theorem dX4_share_11 : decode cX4_share 11 = .ok (.iload_n 3, 1) := dk_29 (dk_at dksX4_share_0 11 rfl rfl)
theorem dX4_share_12 : decode cX4_share 12 = .ok (.aload_n 0, 1) := dk_42 (dk_at dksX4_share_0 12 rfl rfl)
theorem dX4_share_13 : decode cX4_share 13 = .ok (.getfield 48, 3) := dk_180 0 48 (dk_at dksX4_share_0 13 rfl rfl)
theorem dX4_share_16 : decode cX4_share 16 = .ok (.getfield 95, 3) := dk_180 0 95 (dk_at dksX4_share_0 16 rfl rfl)
theorem dX4_share_19 : decode cX4_share 19 = .ok (.if_icmp .ge 45, 3) := dk_162 0 45 (dk_at dksX4_share_0 19 rfl rfl)
theorem dX4_share_22 : decode cX4_share 22 = .ok (.aload_n 0, 1) := dk_42 (dk_at dksX4_share_0 22 rfl rfl)
theorem dX4_share_23 : decode cX4_share 23 = .ok (.getfield 48, 3) := dk_180 0 48 (dk_at dksX4_share_1 0 rfl rfl)
theorem dX4_share_26 : decode cX4_share 26 = .ok (.getfield 124, 3) := dk_180 0 124 (dk_at dksX4_share_1 3 rfl rfl)
theorem dX4_share_29 : decode cX4_share 29 = .ok (.iload_n 3, 1) := dk_29 (dk_at dksX4_share_1 6 rfl rfl)
theorem dX4_share_30 : decode cX4_share 30 = .ok (.iaload, 1) := dk_46 (dk_at dksX4_share_1 7 rfl rfl)
theorem dX4_share_31 : decode cX4_share 31 = .ok (.ifCond .eq 6, 3) := dk_153 0 6 (dk_at dksX4_share_1 8 rfl rfl)
theorem dX4_share_34 : decode cX4_share 34 = .ok (.goto 24, 3) := dk_167 0 24 (dk_at dksX4_share_1 11 rfl rfl)
theorem dX4_share_37 : decode cX4_share 37 = .ok (.iinc 1 1, 3) := dk_132 1 1 (dk_at dksX4_share_1 14 rfl rfl)
theorem dX4_share_40 : decode cX4_share 40 = .ok (.iload_n 2, 1) := dk_28 (dk_at dksX4_share_1 17 rfl rfl)
theorem dX4_share_41 : decode cX4_share 41 = .ok (.aload_n 0, 1) := dk_42 (dk_at dksX4_share_1 18 rfl rfl)
theorem dX4_share_42 : decode cX4_share 42 = .ok (.getfield 55, 3) := dk_180 0 55 (dk_at dksX4_share_1 19 rfl rfl)
theorem dX4_share_45 : decode cX4_share 45 = .ok (.iload_n 3, 1) := dk_29 (dk_at dksX4_share_1 22 rfl rfl)
theorem dX4_share_46 : decode cX4_share 46 = .ok (.iaload, 1) := dk_46 (dk_at dksX4_share_1 23 rfl rfl)
theorem dX4_share_47 : decode cX4_share 47 = .ok (.iconst 1, 1) := dk_4 (dk_at dksX4_share_2 0 rfl rfl)
theorem dX4_share_48 : decode cX4_share 48 = .ok (.if_icmp .ne 7, 3) := dk_160 0 7 (dk_at dksX4_share_2 1 rfl rfl)
theorem dX4_share_51 : decode cX4_share 51 = .ok (.iconst 1, 1) := dk_4 (dk_at dksX4_share_2 4 rfl rfl)
theorem dX4_share_52 : decode cX4_share 52 = .ok (.goto 4, 3) := dk_167 0 4 (dk_at dksX4_share_2 5 rfl rfl)
theorem dX4_share_55 : decode cX4_share 55 = .ok (.iconst 0, 1) := dk_3 (dk_at dksX4_share_2 8 rfl rfl)
theorem dX4_share_56 : decode cX4_share 56 = .ok (.iadd, 1) := dk_96 (dk_at dksX4_share_2 9 rfl rfl)
theorem dX4_share_57 : decode cX4_share 57 = .ok (.istore_n 2, 1) := dk_61 (dk_at dksX4_share_2 10 rfl rfl)
theorem dX4_share_58 : decode cX4_share 58 = .ok (.iinc 3 1, 3) := dk_132 3 1 (dk_at dksX4_share_2 11 rfl rfl)
theorem dX4_share_61 : decode cX4_share 61 = .ok (.goto (-50), 3) := dk_167 255 206 (dk_at dksX4_share_2 14 rfl rfl)
theorem dX4_share_64 : decode cX4_share 64 = .ok (.iload_n 1, 1) := dk_27 (dk_at dksX4_share_2 17 rfl rfl)
theorem dX4_share_65 : decode cX4_share 65 = .ok (.ifCond .ne 7, 3) := dk_154 0 7 (dk_at dksX4_share_2 18 rfl rfl)
theorem dX4_share_68 : decode cX4_share 68 = .ok (.dconst 0, 1) := dk_14 (dk_at dksX4_share_2 21 rfl rfl)
theorem dX4_share_69 : decode cX4_share 69 = .ok (.goto 8, 3) := dk_167 0 8 (dk_at dksX4_share_3 0 rfl rfl)
theorem dX4_share_72 : decode cX4_share 72 = .ok (.iload_n 2, 1) := dk_28 (dk_at dksX4_share_3 3 rfl rfl)
theorem dX4_share_73 : decode cX4_share 73 = .ok (.i2d, 1) := dk_135 (dk_at dksX4_share_3 4 rfl rfl)
theorem dX4_share_74 : decode cX4_share 74 = .ok (.iload_n 1, 1) := dk_27 (dk_at dksX4_share_3 5 rfl rfl)
theorem dX4_share_75 : decode cX4_share 75 = .ok (.i2d, 1) := dk_135 (dk_at dksX4_share_3 6 rfl rfl)
theorem dX4_share_76 : decode cX4_share 76 = .ok (.ddiv, 1) := dk_111 (dk_at dksX4_share_3 7 rfl rfl)
theorem dX4_share_77 : decode cX4_share 77 = .ok (.dreturn, 1) := dk_175 (dk_at dksX4_share_3 8 rfl rfl)
def wp_X4_share_B58 (Z : zzG) (k11 : Option Nat → Int32 → Int32 → Int32 → zzM → Prop) (K : Option Value → zzM → Prop) (v0 : Option Nat) (v1 : Int32) (v2 : Int32) (v3 : Int32) (M : zzM) : Prop := k11 v0 v1 v2 (v3 + 1) M
def wp_X4_share_B56 (Z : zzG) (k11 : Option Nat → Int32 → Int32 → Int32 → zzM → Prop) (K : Option Value → zzM → Prop) (v0 : Option Nat) (v1 : Int32) (v3 : Int32) (s0 : Int32) (s1 : Int32) (M : zzM) : Prop := wp_X4_share_B58 Z k11 K v0 v1 (s1 + s0) v3 M
def wp_X4_share_B77 (Z : zzG) (K : Option Value → zzM → Prop) (s0 : UInt64) (M : zzM) : Prop := K (some (.double s0)) M
def wp_X4_share_L11 (Z : zzG) (K : Option Value → zzM → Prop) : Nat → Option Nat → Int32 → Int32 → Int32 → zzM → Prop
  | 0, _, _, _, _, _ => False
  | n + 1, v0, v1, v2, v3, M => zgA Z M v0 [16] 11 fun x2 => zgI Z M x2 [17] 3 fun x3 => if x3 ≤ v3 then (if v1 = 0 then (wp_X4_share_B77 Z K FP.dconst0 M) else (vf_n64 (FP.ddiv (FP.i2d v2) (FP.i2d v1)) ∧ wp_X4_share_B77 Z K (FP.ddiv (FP.i2d v2) (FP.i2d v1)) M)) else (zgA Z M v0 [16] 11 fun x4 => zgA Z M x4 [17] 5 fun x5 => zaI Z M x5 [100] v3 fun x6 => if x6 = 0 then (zgA Z M v0 [16] 13 fun x7 => zaI Z M x7 [100] v3 fun x8 => if x8 = (1 : Int32) then (wp_X4_share_B56 Z (wp_X4_share_L11 Z K n) K v0 (v1 + 1) v3 (1 : Int32) v2 M) else (wp_X4_share_B56 Z (wp_X4_share_L11 Z K n) K v0 (v1 + 1) v3 (0 : Int32) v2 M)) else (wp_X4_share_B58 Z (wp_X4_share_L11 Z K n) K v0 v1 v2 v3 M))
def wp_X4_share (Z : zzG) (this : Option Nat) (M : zzM) (K : Option Value → zzM → Prop) : Prop := zput Z M this [16] 0 (.int (0 : Int32)) fun M1 => ∃ n11 : Nat, wp_X4_share_L11 Z K n11 this (0 : Int32) (0 : Int32) (0 : Int32) M1
theorem ok_X4_share_B58 {G : zzX} (C : zz_C G cX4_share "DebateHallModel" 4) {K : Option Value → zzM → Prop} (E : zz_E G (some .double) K (fun _ _ _ => False)) (hH : zz_H G []) (hR : zz_Rm G 1) {k11 : Option Nat → Int32 → Int32 → Int32 → zzM → Prop} (hk11 : ∀ (z0 : Option Nat) (z1 : Int32) (z2 : Int32) (z3 : Int32) (M : zzM) (bc bs : Nat), k11 z0 z1 z2 z3 M → zz_T G 4 M bc bs 11 [(0, va_rf z0), (1, .int z1), (2, .int z2), (3, .int z3)] []) {v0 : Option Nat} {v1 : Int32} {v2 : Int32} {v3 : Int32} {M : zzM} {bc bs : Nat} (hw : wp_X4_share_B58 (zz_Zof G) k11 K v0 v1 v2 v3 M) : zz_T G 4 M bc bs 58 [(0, va_rf v0), (1, .int v1), (2, .int v2), (3, .int v3)] [] := by
  unfold wp_X4_share_B58 at hw
  refine zz_iinc (lv' := [(3, .int (v3 + 1)), (0, va_rf v0), (1, .int v1), (2, .int v2)]) C dX4_share_58 3 rfl (by rfl) (by decide) rfl ?_
  refine zz_goto (tgt := 11) C dX4_share_61 (by decide) ?_
  refine zz_subP [1, 2, 3, 0] rfl ?_
  exact hk11 _ _ _ _ _ _ _ hw
theorem ok_X4_share_B56 {G : zzX} (C : zz_C G cX4_share "DebateHallModel" 4) {K : Option Value → zzM → Prop} (E : zz_E G (some .double) K (fun _ _ _ => False)) (hH : zz_H G []) (hR : zz_Rm G 1) {k11 : Option Nat → Int32 → Int32 → Int32 → zzM → Prop} (hk11 : ∀ (z0 : Option Nat) (z1 : Int32) (z2 : Int32) (z3 : Int32) (M : zzM) (bc bs : Nat), k11 z0 z1 z2 z3 M → zz_T G 4 M bc bs 11 [(0, va_rf z0), (1, .int z1), (2, .int z2), (3, .int z3)] []) {v0 : Option Nat} {v1 : Int32} {v3 : Int32} {s0 : Int32} {s1 : Int32} {M : zzM} {bc bs : Nat} (hw : wp_X4_share_B56 (zz_Zof G) k11 K v0 v1 v3 s0 s1 M) : zz_T G 4 M bc bs 56 [(0, va_rf v0), (1, .int v1), (3, .int v3)] [.int s0, .int s1] := by
  unfold wp_X4_share_B56 at hw
  refine zz_iadd C dX4_share_56 ?_
  refine zz_istore_n (i := 2) (lv' := [(2, .int (s1 + s0)), (0, va_rf v0), (1, .int v1), (3, .int v3)]) C dX4_share_57 rfl (by decide) rfl ?_
  refine zz_subP [1, 2, 0, 3] rfl ?_
  exact ok_X4_share_B58 C E hH hR hk11 hw
theorem ok_X4_share_B77 {G : zzX} (C : zz_C G cX4_share "DebateHallModel" 4) {K : Option Value → zzM → Prop} (E : zz_E G (some .double) K (fun _ _ _ => False)) (hH : zz_H G []) (hR : zz_Rm G 1) {s0 : UInt64} {M : zzM} {bc bs : Nat} (hw : wp_X4_share_B77 (zz_Zof G) K s0 M) : zz_T G 4 M bc bs 77 [] [.double s0] := by
  unfold wp_X4_share_B77 at hw
  exact zz_dret C E dX4_share_77 hw
theorem ok_X4_share_L11 {G : zzX} (C : zz_C G cX4_share "DebateHallModel" 4) {K : Option Value → zzM → Prop} (E : zz_E G (some .double) K (fun _ _ _ => False)) (hH : zz_H G []) (hR : zz_Rm G 1) : ∀ (n : Nat) (v0 : Option Nat) (v1 : Int32) (v2 : Int32) (v3 : Int32) (M : zzM) (bc bs : Nat), wp_X4_share_L11 (zz_Zof G) K n v0 v1 v2 v3 M → zz_T G 4 M bc bs 11 [(0, va_rf v0), (1, .int v1), (2, .int v2), (3, .int v3)] [] := by
  intro n
  induction n with
  | zero =>
    intro v0 v1 v2 v3 M bc bs hw
    exact False.elim hw
  | succ n ih =>
    intro v0 v1 v2 v3 M bc bs hw
    refine zz_iload_n C dX4_share_11 rfl 3 rfl ?_
    refine zz_aload_n C dX4_share_12 rfl 0 rfl ?_
    refine zz_getA C dX4_share_13 (Or.inl q2447) zf_16_11_ebateHallModel hw (fun x2 hw => ?_)
    refine zz_getI C dX4_share_16 (Or.inr ⟨_, q2394⟩) zf_17_3_allModel_State hw (fun x3 hw => ?_)
    refine zz_icmp_ge (tgt := 64) C dX4_share_19 (by decide) hw (fun hw => ?_) (fun hw => ?_)
    · refine zz_iload_n C dX4_share_64 rfl 1 rfl ?_
      refine zz_if_ne (tgt := 72) C dX4_share_65 (by decide) hw (fun hw => ?_) (fun hw => ?_)
      · refine zz_iload_n C dX4_share_72 rfl 2 rfl ?_
        refine zz_i2d C dX4_share_73 ?_
        refine zz_iload_n C dX4_share_74 rfl 1 rfl ?_
        refine zz_i2d C dX4_share_75 ?_
        obtain ⟨hne, hw⟩ := hw
        refine zz_ddiv C dX4_share_76 hne ?_
        refine zz_subP [] rfl ?_
        exact ok_X4_share_B77 C E hH hR hw
      · refine zz_dconst0 C dX4_share_68 ?_
        refine zz_goto (tgt := 77) C dX4_share_69 (by decide) ?_
        refine zz_subP [] rfl ?_
        exact ok_X4_share_B77 C E hH hR hw
    · refine zz_aload_n C dX4_share_22 rfl 0 rfl ?_
      refine zz_getA C dX4_share_23 (Or.inl q2447) zf_16_11_ebateHallModel hw (fun x4 hw => ?_)
      refine zz_getA C dX4_share_26 (Or.inr ⟨_, q2398⟩) zf_17_5_allModel_State hw (fun x5 hw => ?_)
      refine zz_iload_n C dX4_share_29 rfl 3 rfl ?_
      refine zz_iald C dX4_share_30 hw (fun x6 hw => ?_)
      refine zz_if_eq (tgt := 37) C dX4_share_31 (by decide) hw (fun hw => ?_) (fun hw => ?_)
      · refine zz_iinc (lv' := [(1, .int (v1 + 1)), (0, va_rf v0), (2, .int v2), (3, .int v3)]) C dX4_share_37 1 rfl (by rfl) (by decide) (by simp [zz_cat, zz_catI, zz_catJ, zz_catD]) ?_
        refine zz_iload_n C dX4_share_40 rfl 2 rfl ?_
        refine zz_aload_n C dX4_share_41 rfl 1 rfl ?_
        refine zz_getA C dX4_share_42 (Or.inl q2449) zf_16_13_ebateHallModel hw (fun x7 hw => ?_)
        refine zz_iload_n C dX4_share_45 rfl 3 rfl ?_
        refine zz_iald C dX4_share_46 hw (fun x8 hw => ?_)
        refine zz_iconst (v := (1 : Int32)) C dX4_share_47 (by decide) ?_
        refine zz_icmp_ne (tgt := 55) C dX4_share_48 (by decide) hw (fun hw => ?_) (fun hw => ?_)
        · refine zz_iconst (v := (0 : Int32)) C dX4_share_55 (by decide) ?_
          refine zz_subP [1, 0, 3] rfl ?_
          exact ok_X4_share_B56 C E hH hR (fun z0 z1 z2 z3 z4 z5 z6 hw => ih z0 z1 z2 z3 z4 z5 z6 hw) hw
        · refine zz_iconst (v := (1 : Int32)) C dX4_share_51 (by decide) ?_
          refine zz_goto (tgt := 56) C dX4_share_52 (by decide) ?_
          refine zz_subP [1, 0, 3] rfl ?_
          exact ok_X4_share_B56 C E hH hR (fun z0 z1 z2 z3 z4 z5 z6 hw => ih z0 z1 z2 z3 z4 z5 z6 hw) hw
      · refine zz_goto (tgt := 58) C dX4_share_34 (by decide) ?_
        refine zz_subP [0, 1, 2, 3] rfl ?_
        exact ok_X4_share_B58 C E hH hR (fun z0 z1 z2 z3 z4 z5 z6 hw => ih z0 z1 z2 z3 z4 z5 z6 hw) hw
theorem ok_X4_share {Z : zzG} {l : Launch} (hl : l.stackTraces = false) {this : Option Nat} {M : zzM} {mc ms : Nat} {K : Option Value → zzM → Prop} (hw : wp_X4_share Z this M K) : zz_Met Z l yX4_share (zz_ws yX4_share cX4_share 4 (some .double) none) 1 [va_rf this] M mc ms K (fun _ _ _ => False) := by
  refine zz_ofW hl (plainFor_of_name (by decide)) (by simp only [zz_sl0, zz_slI, zz_slJ, zz_slA] <;> decide) (fun G hZ hll C E hH hR hin => ?_)
  subst hZ
  subst hll
  rw [show lv_args 0 [va_rf this] = [(0, va_rf this)] by simp only [zz_la0, zz_laI, zz_laJ, zz_laA]]
  unfold wp_X4_share at hw
  refine zz_aload_n C dX4_share_0 rfl 0 rfl ?_
  refine zz_iconst (v := (0 : Int32)) C dX4_share_1 (by decide) ?_
  refine zz_put C dX4_share_2 (Or.inl q2436) zf_16_0_ebateHallModel zp_16_0 (zz_hn1 ⟨rfl, rfl⟩) hw (fun M1 hw => ?_)
  refine zz_iconst (v := (0 : Int32)) C dX4_share_5 (by decide) ?_
  refine zz_istore_n (i := 1) (lv' := [(1, .int (0 : Int32)), (0, va_rf this)]) C dX4_share_6 rfl (by decide) (by simp [zz_cat, zz_catI, zz_catJ, zz_catD]) ?_
  refine zz_iconst (v := (0 : Int32)) C dX4_share_7 (by decide) ?_
  refine zz_istore_n (i := 2) (lv' := [(2, .int (0 : Int32)), (1, .int (0 : Int32)), (0, va_rf this)]) C dX4_share_8 rfl (by decide) rfl ?_
  refine zz_iconst (v := (0 : Int32)) C dX4_share_9 (by decide) ?_
  refine zz_istore_n (i := 3) (lv' := [(3, .int (0 : Int32)), (2, .int (0 : Int32)), (1, .int (0 : Int32)), (0, va_rf this)]) C dX4_share_10 rfl (by decide) rfl ?_
  refine zz_subP [3, 2, 1, 0] rfl ?_
  obtain ⟨n11, hw⟩ := hw
  exact ok_X4_share_L11 C E hH hR n11 _ _ _ _ _ _ _ hw
abbrev cX1_byteAt : ByteArray := prog_1_method_34_code
def yX1_byteAt : MethodName := ⟨"DebateHall", "byteAt", "(I)I"⟩
def dkwX1_byteAt_0 : List UInt8 := [27, 42, 180, 0, 43, 182, 0, 175, 184, 0, 57, 42, 180, 0, 43, 27, 182, 1, 25, 172]
abbrev dktX1_byteAt_0 : List UInt8 := dkwX1_byteAt_0 ++ []
theorem dksX1_byteAt_0 : cX1_byteAt.data.toList.drop 0 = dktX1_byteAt_0 := by decide +kernel
theorem dX1_byteAt_0 : decode cX1_byteAt 0 = .ok (.iload_n 1, 1) := dk_27 (dk_at dksX1_byteAt_0 0 rfl rfl)
theorem dX1_byteAt_1 : decode cX1_byteAt 1 = .ok (.aload_n 0, 1) := dk_42 (dk_at dksX1_byteAt_0 1 rfl rfl)
theorem dX1_byteAt_2 : decode cX1_byteAt 2 = .ok (.getfield 43, 3) := dk_180 0 43 (dk_at dksX1_byteAt_0 2 rfl rfl)
theorem dX1_byteAt_5 : decode cX1_byteAt 5 = .ok (.invokevirtual 175, 3) := dk_182 0 175 (dk_at dksX1_byteAt_0 5 rfl rfl)
theorem dX1_byteAt_8 : decode cX1_byteAt 8 = .ok (.invokestatic 57, 3) := dk_184 0 57 (dk_at dksX1_byteAt_0 8 rfl rfl)
theorem dX1_byteAt_11 : decode cX1_byteAt 11 = .ok (.aload_n 0, 1) := dk_42 (dk_at dksX1_byteAt_0 11 rfl rfl)
theorem dX1_byteAt_12 : decode cX1_byteAt 12 = .ok (.getfield 43, 3) := dk_180 0 43 (dk_at dksX1_byteAt_0 12 rfl rfl)
theorem dX1_byteAt_15 : decode cX1_byteAt 15 = .ok (.iload_n 1, 1) := dk_27 (dk_at dksX1_byteAt_0 15 rfl rfl)
theorem dX1_byteAt_16 : decode cX1_byteAt 16 = .ok (.invokevirtual 281, 3) := dk_182 1 25 (dk_at dksX1_byteAt_0 16 rfl rfl)
theorem dX1_byteAt_19 : decode cX1_byteAt 19 = .ok (.ireturn, 1) := dk_172 (dk_at dksX1_byteAt_0 19 rfl rfl)
def wp_X1_byteAt (Z : zzG) (this : Option Nat) (p0 : Int32) (M : zzM) (bc bs : Nat) (K : Option Value → zzM → Prop) (X : Nat → Nat → zzM → Prop) : Prop := zgA Z M this [0] 3 fun x1 => zty Z M x1 fun t => t = 20 ∧ wp_J6_length Z x1 M (fun r2 M3 => zrI r2 fun x6 => zcx bc bs (fun c s k x => wp_X1_requireIndex Z p0 x6 M3 c s k x) (fun r7 M8 bc9 bs10 => zrV r7 (zgA Z M8 this [0] 3 fun x11 => zty Z M8 x11 fun t => t = 20 ∧ wp_J6_charAt Z x11 p0 M8 (fun r12 M13 => zrI r12 fun x16 => K (some (.int x16)) M13))) (fun t q M _ _ => X t q M))
theorem ok_X1_byteAt {Z : zzG} {l : Launch} (hl : l.stackTraces = false) {this : Option Nat} {p0 : Int32} {M : zzM} {mc ms : Nat} {K : Option Value → zzM → Prop} {X : Nat → Nat → zzM → Prop} (hw : wp_X1_byteAt Z this p0 M mc ms K X) : zz_Met Z l yX1_byteAt (zz_ws yX1_byteAt cX1_byteAt 2 (some .int) none) 7 [va_rf this, .int p0] M mc ms K X := by
  refine zz_ofW hl (plainFor_of_name (by decide)) (by simp only [zz_sl0, zz_slI, zz_slJ, zz_slA] <;> decide) (fun G hZ hll C E hH hR hin => ?_)
  subst hZ
  subst hll
  rw [show lv_args 0 [va_rf this, .int p0] = [(0, va_rf this), (1, .int p0)] by simp only [zz_la0, zz_laI, zz_laJ, zz_laA]]
  unfold wp_X1_byteAt at hw
  refine zz_iload_n C dX1_byteAt_0 rfl 1 rfl ?_
  refine zz_aload_n C dX1_byteAt_1 rfl 0 rfl ?_
  refine zz_getA C dX1_byteAt_2 (Or.inl q306) zf_0_3_DebateHall hw (fun x1 hw => ?_)
  obtain ⟨a9, t9, b9, fs9, hro, hL, rfl, hw⟩ := ztyS hw
  refine zz_callV (r := (zR_20, zT_20, 4)) (As := []) (rest := [.int p0]) (mc := 0) (ms := 0) C hR hro dX1_byteAt_5 (Or.inl q2111) q517 (Or.inl q2874) zl_java_lang_StringBuilder zk_J6_length (Or.inl rfl) zy_J6_length rfl (by decide) (by decide) hL (ok_J6_length (zz_hl C) hw) (Nat.zero_le _) (Nat.zero_le _) (zz_cat10 _ (Nat.le_of_ble_eq_true rfl)) (fun r2 M3 hw => zz_kI hw (fun x6 hw => ?_)) (fun _ _ _ h9 => h9.elim) rfl
  obtain ⟨c9, s9, hc9, hs9, hw⟩ := hw
  refine zz_callS (As := [.int p0, .int x6]) (rest := []) C hR dX1_byteAt_8 (Or.inl q2132) q2133 zl_DebateHall zk_X1_requireIndex (Or.inl rfl) zy_X1_requireIndex (by decide) (by decide) (ok_X1_requireIndex (zz_hl C) hw) hc9 hs9 (zz_cat10 _ (Nat.le_of_ble_eq_true rfl)) (fun r7 M8 hw => zz_kV hw (fun hw => ?_)) (fun t9 q17 M18 hx => ?_) rfl
  · refine zz_aload_n C dX1_byteAt_11 rfl 0 rfl ?_
    refine zz_getA C dX1_byteAt_12 (Or.inl q306) zf_0_3_DebateHall hw (fun x11 hw => ?_)
    refine zz_iload_n C dX1_byteAt_15 rfl 1 rfl ?_
    obtain ⟨a9, t9, b9, fs9, hro, hL, rfl, hw⟩ := ztyS hw
    refine zz_callV (r := (zR_20, zT_20, 4)) (As := [.int p0]) (rest := []) (mc := 0) (ms := 0) C hR hro dX1_byteAt_16 (Or.inl q2203) q2204 (Or.inl q2205) zl_java_lang_StringBuilder zk_J6_charAt (Or.inl rfl) zy_J6_charAt rfl (by decide) (by decide) hL (ok_J6_charAt (zz_hl C) hw) (Nat.zero_le _) (Nat.zero_le _) (zz_cat10 _ (Nat.le_of_ble_eq_true rfl)) (fun r12 M13 hw => zz_kI hw (fun x16 hw => ?_)) (fun _ _ _ h9 => h9.elim) rfl
    exact zz_iret C E dX1_byteAt_19 hw
  · exact zz_out C E hH rfl hx
abbrev cX0_byteAt : ByteArray := method_17_code
def yX0_byteAt : MethodName := ⟨"DebateHallLaw", "byteAt", "(LDebateHall;I[J)I"⟩
def dkwX0_byteAt_0 : List UInt8 := [44, 3, 42, 27, 182, 0, 61, 133, 80, 167, 0, 6, 78, 4, 172, 3, 172]
abbrev dktX0_byteAt_0 : List UInt8 := dkwX0_byteAt_0 ++ []
theorem dksX0_byteAt_0 : cX0_byteAt.data.toList.drop 0 = dktX0_byteAt_0 := by decide +kernel
theorem dX0_byteAt_0 : decode cX0_byteAt 0 = .ok (.aload_n 2, 1) := dk_44 (dk_at dksX0_byteAt_0 0 rfl rfl)
theorem dX0_byteAt_1 : decode cX0_byteAt 1 = .ok (.iconst 0, 1) := dk_3 (dk_at dksX0_byteAt_0 1 rfl rfl)
theorem dX0_byteAt_2 : decode cX0_byteAt 2 = .ok (.aload_n 0, 1) := dk_42 (dk_at dksX0_byteAt_0 2 rfl rfl)
theorem dX0_byteAt_3 : decode cX0_byteAt 3 = .ok (.iload_n 1, 1) := dk_27 (dk_at dksX0_byteAt_0 3 rfl rfl)
theorem dX0_byteAt_4 : decode cX0_byteAt 4 = .ok (.invokevirtual 61, 3) := dk_182 0 61 (dk_at dksX0_byteAt_0 4 rfl rfl)
theorem dX0_byteAt_7 : decode cX0_byteAt 7 = .ok (.i2l, 1) := dk_133 (dk_at dksX0_byteAt_0 7 rfl rfl)
theorem dX0_byteAt_8 : decode cX0_byteAt 8 = .ok (.lastore, 1) := dk_80 (dk_at dksX0_byteAt_0 8 rfl rfl)
theorem dX0_byteAt_9 : decode cX0_byteAt 9 = .ok (.goto 6, 3) := dk_167 0 6 (dk_at dksX0_byteAt_0 9 rfl rfl)
theorem dX0_byteAt_12 : decode cX0_byteAt 12 = .ok (.astore_n 3, 1) := dk_78 (dk_at dksX0_byteAt_0 12 rfl rfl)
theorem dX0_byteAt_13 : decode cX0_byteAt 13 = .ok (.iconst 1, 1) := dk_4 (dk_at dksX0_byteAt_0 13 rfl rfl)
theorem dX0_byteAt_14 : decode cX0_byteAt 14 = .ok (.ireturn, 1) := dk_172 (dk_at dksX0_byteAt_0 14 rfl rfl)
theorem dX0_byteAt_15 : decode cX0_byteAt 15 = .ok (.iconst 0, 1) := dk_3 (dk_at dksX0_byteAt_0 15 rfl rfl)
theorem dX0_byteAt_16 : decode cX0_byteAt 16 = .ok (.ireturn, 1) := dk_172 (dk_at dksX0_byteAt_0 16 rfl rfl)
theorem q2374 : (Jvm.Cond.code ({ cls := "DebateHall", name := "byteAt", desc := "(I)I" } : Jvm.MethodName) prog_1_method_34_code (2 : Nat) (Option.some Jvm.ClassFile.FieldType.int)) ∈ lw_all := lw_g (lw_at lw_m10 134 rfl) rfl
theorem zk_X1_byteAt : zz_cd yX1_byteAt cX1_byteAt 2 (some .int) none ∈ lw_all := q2374
theorem zy_X1_byteAt : zz_yok yX1_byteAt 1 = true := by decide +kernel
theorem q2265 : (Jvm.Cond.classLink "DebateHallLaw" (24 : Nat) "java/lang/IndexOutOfBoundsException") ∈ lw_all := lw_g (lw_at lw_m10 25 rfl) rfl
theorem q2371 : (Jvm.Cond.methodLink "DebateHallLaw" (61 : Nat) ({ cls := "DebateHall", name := "byteAt", desc := "(I)I" } : Jvm.MethodName)) ∈ lw_all := lw_g (lw_at lw_m10 131 rfl) rfl
theorem q2372 : (Jvm.Cond.instanceMethod ({ cls := "DebateHall", name := "byteAt", desc := "(I)I" } : Jvm.MethodName)) ∈ lw_all := lw_g (lw_at lw_m10 132 rfl) rfl
theorem q2373 : (Jvm.Cond.selects "DebateHall" ({ cls := "DebateHall", name := "byteAt", desc := "(I)I" } : Jvm.MethodName) ({ cls := "DebateHall", name := "byteAt", desc := "(I)I" } : Jvm.MethodName)) ∈ lw_all := lw_g (lw_at lw_m10 133 rfl) rfl
def wp_X0_byteAt_B12 (Z : zzG) (K : Option Value → zzM → Prop) (s0 : Option Nat) (M : zzM) (bc bs : Nat) : Prop := K (some (.int (1 : Int32))) M
def wp_X0_byteAt (Z : zzG) (p0 : Option Nat) (p1 : Int32) (p2 : Option Nat) (M : zzM) (bc bs : Nat) (K : Option Value → zzM → Prop) : Prop := zty Z M p0 fun t => t = 0 ∧ zcx bc bs (fun c s k x => wp_X1_byteAt Z p0 p1 M c s k x) (fun r1 M2 bc3 bs4 => zrI r1 fun x5 => zast Z M2 p2 [102] (0 : Int32) (.long x5.toInt64) fun M6 => K (some (.int (0 : Int32))) M6) (fun t q7 M8 bc9 bs10 => if t = 28 then (wp_X0_byteAt_B12 Z K (some q7) M8 bc9 bs10) else False)
theorem ok_X0_byteAt_B12 {G : zzX} (C : zz_C G cX0_byteAt "DebateHallLaw" 4) {K : Option Value → zzM → Prop} (E : zz_E G (some .int) K (fun _ _ _ => False)) (hH : zz_H G [(0, 9, 12, 24)]) (hR : zz_Rm G 8) {s0 : Option Nat} {M : zzM} {bc bs : Nat} (hw : wp_X0_byteAt_B12 (zz_Zof G) K s0 M bc bs) : zz_T G 4 M bc bs 12 [] [va_rf s0] := by
  unfold wp_X0_byteAt_B12 at hw
  refine zz_astore_n (i := 3) (lv' := [(3, va_rf s0)]) C dX0_byteAt_12 rfl (by decide) rfl ?_
  refine zz_iconst (v := (1 : Int32)) C dX0_byteAt_13 (by decide) ?_
  exact zz_iret C E dX0_byteAt_14 hw
theorem ok_X0_byteAt {Z : zzG} {l : Launch} (hl : l.stackTraces = false) {p0 : Option Nat} {p1 : Int32} {p2 : Option Nat} {M : zzM} {mc ms : Nat} {K : Option Value → zzM → Prop} (hw : wp_X0_byteAt Z p0 p1 p2 M mc ms K) : zz_Met Z l yX0_byteAt (zz_ws yX0_byteAt cX0_byteAt 4 (some .int) (some [(0, 9, 12, 24)])) 8 [va_rf p0, .int p1, va_rf p2] M mc ms K (fun _ _ _ => False) := by
  refine zz_ofW hl (plainFor_of_name (by decide)) (by simp only [zz_sl0, zz_slI, zz_slJ, zz_slA] <;> decide) (fun G hZ hll C E hH hR hin => ?_)
  subst hZ
  subst hll
  rw [show lv_args 0 [va_rf p0, .int p1, va_rf p2] = [(0, va_rf p0), (1, .int p1), (2, va_rf p2)] by simp only [zz_la0, zz_laI, zz_laJ, zz_laA]]
  unfold wp_X0_byteAt at hw
  refine zz_aload_n C dX0_byteAt_0 rfl 2 rfl ?_
  refine zz_iconst (v := (0 : Int32)) C dX0_byteAt_1 (by decide) ?_
  refine zz_aload_n C dX0_byteAt_2 rfl 0 rfl ?_
  refine zz_iload_n C dX0_byteAt_3 rfl 1 rfl ?_
  obtain ⟨a9, t9, b9, fs9, hro, hL, rfl, hw⟩ := ztyS hw
  obtain ⟨c9, s9, hc9, hs9, hw⟩ := hw
  refine zz_callV (r := (zR_0, zT_0, 4)) (As := [.int p1]) (rest := [.int (0 : Int32), va_rf p2]) C hR hro dX0_byteAt_4 (Or.inl q2371) q2372 (Or.inl q2373) zl_DebateHall zk_X1_byteAt (Or.inl rfl) zy_X1_byteAt rfl (by decide) (by decide) hL (ok_X1_byteAt (zz_hl C) hw) hc9 hs9 (zz_cat10 _ (Nat.le_of_ble_eq_true rfl)) (fun r1 M2 hw => zz_kI hw (fun x5 hw => ?_)) (fun t9 q7 M8 hw => ?_) rfl
  · refine zz_i2l C dX0_byteAt_7 ?_
    refine zz_last C dX0_byteAt_8 hw (fun M6 hw => ?_)
    refine zz_goto (tgt := 15) C dX0_byteAt_9 (by decide) ?_
    refine zz_iconst (v := (0 : Int32)) C dX0_byteAt_15 (by decide) ?_
    exact zz_iret C E dX0_byteAt_16 hw
  · by_cases e28 : t9 = 28
    · replace hw := zz_ifp e28 hw
      subst e28
      refine zz_catch (r := (zR_28, zT_28, 0)) C hH rfl [] (0, 9, 12, 24) [] rfl (fun _ h9 => absurd h9 List.not_mem_nil) rfl (by decide) q2265 q2137 ?_
      refine zz_subP [] rfl ?_
      exact ok_X0_byteAt_B12 C E hH hR hw
    · replace hw := zz_ifn e28 hw
      exact hw.elim
abbrev cX4_isIn : ByteArray := prog_25_method_6_code
def yX4_isIn : MethodName := ⟨"DebateHallModel", "isIn", "(III)Z"⟩
def dkwX4_isIn_0 : List UInt8 := [26, 27, 161, 0, 12, 26, 28, 163, 0, 7, 4, 167, 0, 4, 3, 172]
abbrev dktX4_isIn_0 : List UInt8 := dkwX4_isIn_0 ++ []
theorem dksX4_isIn_0 : cX4_isIn.data.toList.drop 0 = dktX4_isIn_0 := by decide +kernel
theorem dX4_isIn_0 : decode cX4_isIn 0 = .ok (.iload_n 0, 1) := dk_26 (dk_at dksX4_isIn_0 0 rfl rfl)
theorem dX4_isIn_1 : decode cX4_isIn 1 = .ok (.iload_n 1, 1) := dk_27 (dk_at dksX4_isIn_0 1 rfl rfl)
theorem dX4_isIn_2 : decode cX4_isIn 2 = .ok (.if_icmp .lt 12, 3) := dk_161 0 12 (dk_at dksX4_isIn_0 2 rfl rfl)
theorem dX4_isIn_5 : decode cX4_isIn 5 = .ok (.iload_n 0, 1) := dk_26 (dk_at dksX4_isIn_0 5 rfl rfl)
theorem dX4_isIn_6 : decode cX4_isIn 6 = .ok (.iload_n 2, 1) := dk_28 (dk_at dksX4_isIn_0 6 rfl rfl)
theorem dX4_isIn_7 : decode cX4_isIn 7 = .ok (.if_icmp .gt 7, 3) := dk_163 0 7 (dk_at dksX4_isIn_0 7 rfl rfl)
theorem dX4_isIn_10 : decode cX4_isIn 10 = .ok (.iconst 1, 1) := dk_4 (dk_at dksX4_isIn_0 10 rfl rfl)
theorem dX4_isIn_11 : decode cX4_isIn 11 = .ok (.goto 4, 3) := dk_167 0 4 (dk_at dksX4_isIn_0 11 rfl rfl)
theorem dX4_isIn_14 : decode cX4_isIn 14 = .ok (.iconst 0, 1) := dk_3 (dk_at dksX4_isIn_0 14 rfl rfl)
theorem dX4_isIn_15 : decode cX4_isIn 15 = .ok (.ireturn, 1) := dk_172 (dk_at dksX4_isIn_0 15 rfl rfl)
def wp_X4_isIn_B15 (Z : zzG) (K : Option Value → zzM → Prop) (s0 : Int32) (M : zzM) : Prop := narrow .boolean (.int s0) = .int s0 ∧ K (some (.int s0)) M
def wp_X4_isIn_B14 (Z : zzG) (K : Option Value → zzM → Prop) (M : zzM) : Prop := wp_X4_isIn_B15 Z K (0 : Int32) M
def wp_X4_isIn (Z : zzG) (p0 : Int32) (p1 : Int32) (p2 : Int32) (M : zzM) (K : Option Value → zzM → Prop) : Prop := if p0 < p1 then (wp_X4_isIn_B14 Z K M) else (if p2 < p0 then (wp_X4_isIn_B14 Z K M) else (wp_X4_isIn_B15 Z K (1 : Int32) M))
theorem ok_X4_isIn_B15 {G : zzX} (C : zz_C G cX4_isIn "DebateHallModel" 3) {K : Option Value → zzM → Prop} (E : zz_E G (some .boolean) K (fun _ _ _ => False)) (hH : zz_H G []) (hR : zz_Rm G 1) {s0 : Int32} {M : zzM} {bc bs : Nat} (hw : wp_X4_isIn_B15 (zz_Zof G) K s0 M) : zz_T G 3 M bc bs 15 [] [.int s0] := by
  unfold wp_X4_isIn_B15 at hw
  exact zz_zret C E dX4_isIn_15 hw
theorem ok_X4_isIn_B14 {G : zzX} (C : zz_C G cX4_isIn "DebateHallModel" 3) {K : Option Value → zzM → Prop} (E : zz_E G (some .boolean) K (fun _ _ _ => False)) (hH : zz_H G []) (hR : zz_Rm G 1) {M : zzM} {bc bs : Nat} (hw : wp_X4_isIn_B14 (zz_Zof G) K M) : zz_T G 3 M bc bs 14 [] [] := by
  unfold wp_X4_isIn_B14 at hw
  refine zz_iconst (v := (0 : Int32)) C dX4_isIn_14 (by decide) ?_
  refine zz_subP [] rfl ?_
  exact ok_X4_isIn_B15 C E hH hR hw
theorem ok_X4_isIn {Z : zzG} {l : Launch} (hl : l.stackTraces = false) {p0 : Int32} {p1 : Int32} {p2 : Int32} {M : zzM} {mc ms : Nat} {K : Option Value → zzM → Prop} (hw : wp_X4_isIn Z p0 p1 p2 M K) : zz_Met Z l yX4_isIn (zz_ws yX4_isIn cX4_isIn 3 (some .boolean) none) 1 [.int p0, .int p1, .int p2] M mc ms K (fun _ _ _ => False) := by
  refine zz_ofW hl (plainFor_of_name (by decide)) (by simp only [zz_sl0, zz_slI, zz_slJ, zz_slA] <;> decide) (fun G hZ hll C E hH hR hin => ?_)
  subst hZ
  subst hll
  rw [show lv_args 0 [.int p0, .int p1, .int p2] = [(0, .int p0), (1, .int p1), (2, .int p2)] by simp only [zz_la0, zz_laI, zz_laJ, zz_laA]]
  unfold wp_X4_isIn at hw
  refine zz_iload_n C dX4_isIn_0 rfl 0 rfl ?_
  refine zz_iload_n C dX4_isIn_1 rfl 1 rfl ?_
  refine zz_icmp_lt (tgt := 14) C dX4_isIn_2 (by decide) hw (fun hw => ?_) (fun hw => ?_)
  · refine zz_subP [] rfl ?_
    exact ok_X4_isIn_B14 C E hH hR hw
  · refine zz_iload_n C dX4_isIn_5 rfl 0 rfl ?_
    refine zz_iload_n C dX4_isIn_6 rfl 2 rfl ?_
    refine zz_icmp_gt (tgt := 14) C dX4_isIn_7 (by decide) hw (fun hw => ?_) (fun hw => ?_)
    · refine zz_subP [] rfl ?_
      exact ok_X4_isIn_B14 C E hH hR hw
    · refine zz_iconst (v := (1 : Int32)) C dX4_isIn_10 (by decide) ?_
      refine zz_goto (tgt := 15) C dX4_isIn_11 (by decide) ?_
      refine zz_subP [] rfl ?_
      exact ok_X4_isIn_B15 C E hH hR hw
abbrev cX4_no : ByteArray := prog_25_method_5_code
def yX4_no : MethodName := ⟨"DebateHallModel", "no", "(I)I"⟩
def dkwX4_no_0 : List UInt8 := [42, 27, 181, 0, 85, 3, 172]
abbrev dktX4_no_0 : List UInt8 := dkwX4_no_0 ++ []
theorem dksX4_no_0 : cX4_no.data.toList.drop 0 = dktX4_no_0 := by decide +kernel
theorem dX4_no_0 : decode cX4_no 0 = .ok (.aload_n 0, 1) := dk_42 (dk_at dksX4_no_0 0 rfl rfl)
theorem dX4_no_1 : decode cX4_no 1 = .ok (.iload_n 1, 1) := dk_27 (dk_at dksX4_no_0 1 rfl rfl)
theorem dX4_no_2 : decode cX4_no 2 = .ok (.putfield 85, 3) := dk_181 0 85 (dk_at dksX4_no_0 2 rfl rfl)
theorem dX4_no_5 : decode cX4_no 5 = .ok (.iconst 0, 1) := dk_3 (dk_at dksX4_no_0 5 rfl rfl)
theorem dX4_no_6 : decode cX4_no 6 = .ok (.ireturn, 1) := dk_172 (dk_at dksX4_no_0 6 rfl rfl)
def wp_X4_no (Z : zzG) (this : Option Nat) (p0 : Int32) (M : zzM) (K : Option Value → zzM → Prop) : Prop := zput Z M this [16] 0 (.int p0) fun M1 => K (some (.int (0 : Int32))) M1
theorem ok_X4_no {Z : zzG} {l : Launch} (hl : l.stackTraces = false) {this : Option Nat} {p0 : Int32} {M : zzM} {mc ms : Nat} {K : Option Value → zzM → Prop} (hw : wp_X4_no Z this p0 M K) : zz_Met Z l yX4_no (zz_ws yX4_no cX4_no 2 (some .int) none) 1 [va_rf this, .int p0] M mc ms K (fun _ _ _ => False) := by
  refine zz_ofW hl (plainFor_of_name (by decide)) (by simp only [zz_sl0, zz_slI, zz_slJ, zz_slA] <;> decide) (fun G hZ hll C E hH hR hin => ?_)
  subst hZ
  subst hll
  rw [show lv_args 0 [va_rf this, .int p0] = [(0, va_rf this), (1, .int p0)] by simp only [zz_la0, zz_laI, zz_laJ, zz_laA]]
  unfold wp_X4_no at hw
  refine zz_aload_n C dX4_no_0 rfl 0 rfl ?_
  refine zz_iload_n C dX4_no_1 rfl 1 rfl ?_
  refine zz_put C dX4_no_2 (Or.inl q2436) zf_16_0_ebateHallModel zp_16_0 (zz_hn1 ⟨rfl, rfl⟩) hw (fun M1 hw => ?_)
  refine zz_iconst (v := (0 : Int32)) C dX4_no_5 (by decide) ?_
  exact zz_iret C E dX4_no_6 hw
abbrev cX4_byteAt : ByteArray := prog_25_method_73_code
def yX4_byteAt : MethodName := ⟨"DebateHallModel", "byteAt", "(I)I"⟩
def dkwX4_byteAt_1 : List UInt8 := [46, 167, 0, 8, 42, 4, 182, 1, 56, 172]
abbrev dktX4_byteAt_1 : List UInt8 := dkwX4_byteAt_1 ++ []
def dkwX4_byteAt_0 : List UInt8 := [42, 3, 181, 0, 85, 27, 3, 42, 180, 1, 75, 4, 100, 184, 0, 91, 153, 0, 12, 42, 180, 0, 31, 27]
abbrev dktX4_byteAt_0 : List UInt8 := dkwX4_byteAt_0 ++ dktX4_byteAt_1
theorem dksX4_byteAt_0 : cX4_byteAt.data.toList.drop 0 = dktX4_byteAt_0 := by decide +kernel
theorem dksX4_byteAt_1 : cX4_byteAt.data.toList.drop 24 = dktX4_byteAt_1 := dk_seg dksX4_byteAt_0 24 rfl rfl
theorem dX4_byteAt_0 : decode cX4_byteAt 0 = .ok (.aload_n 0, 1) := dk_42 (dk_at dksX4_byteAt_0 0 rfl rfl)
theorem dX4_byteAt_1 : decode cX4_byteAt 1 = .ok (.iconst 0, 1) := dk_3 (dk_at dksX4_byteAt_0 1 rfl rfl)
theorem dX4_byteAt_2 : decode cX4_byteAt 2 = .ok (.putfield 85, 3) := dk_181 0 85 (dk_at dksX4_byteAt_0 2 rfl rfl)
theorem dX4_byteAt_5 : decode cX4_byteAt 5 = .ok (.iload_n 1, 1) := dk_27 (dk_at dksX4_byteAt_0 5 rfl rfl)
theorem dX4_byteAt_6 : decode cX4_byteAt 6 = .ok (.iconst 0, 1) := dk_3 (dk_at dksX4_byteAt_0 6 rfl rfl)
theorem dX4_byteAt_7 : decode cX4_byteAt 7 = .ok (.aload_n 0, 1) := dk_42 (dk_at dksX4_byteAt_0 7 rfl rfl)
theorem dX4_byteAt_8 : decode cX4_byteAt 8 = .ok (.getfield 331, 3) := dk_180 1 75 (dk_at dksX4_byteAt_0 8 rfl rfl)
theorem dX4_byteAt_11 : decode cX4_byteAt 11 = .ok (.iconst 1, 1) := dk_4 (dk_at dksX4_byteAt_0 11 rfl rfl)
theorem dX4_byteAt_12 : decode cX4_byteAt 12 = .ok (.isub, 1) := dk_100 (dk_at dksX4_byteAt_0 12 rfl rfl)
theorem dX4_byteAt_13 : decode cX4_byteAt 13 = .ok (.invokestatic 91, 3) := dk_184 0 91 (dk_at dksX4_byteAt_0 13 rfl rfl)
theorem dX4_byteAt_16 : decode cX4_byteAt 16 = .ok (.ifCond .eq 12, 3) := dk_153 0 12 (dk_at dksX4_byteAt_0 16 rfl rfl)
theorem dX4_byteAt_19 : decode cX4_byteAt 19 = .ok (.aload_n 0, 1) := dk_42 (dk_at dksX4_byteAt_0 19 rfl rfl)
theorem dX4_byteAt_20 : decode cX4_byteAt 20 = .ok (.getfield 31, 3) := dk_180 0 31 (dk_at dksX4_byteAt_0 20 rfl rfl)
theorem dX4_byteAt_23 : decode cX4_byteAt 23 = .ok (.iload_n 1, 1) := dk_27 (dk_at dksX4_byteAt_0 23 rfl rfl)
theorem dX4_byteAt_24 : decode cX4_byteAt 24 = .ok (.iaload, 1) := dk_46 (dk_at dksX4_byteAt_1 0 rfl rfl)
theorem dX4_byteAt_25 : decode cX4_byteAt 25 = .ok (.goto 8, 3) := dk_167 0 8 (dk_at dksX4_byteAt_1 1 rfl rfl)
theorem dX4_byteAt_28 : decode cX4_byteAt 28 = .ok (.aload_n 0, 1) := dk_42 (dk_at dksX4_byteAt_1 4 rfl rfl)
theorem dX4_byteAt_29 : decode cX4_byteAt 29 = .ok (.iconst 1, 1) := dk_4 (dk_at dksX4_byteAt_1 5 rfl rfl)
theorem dX4_byteAt_30 : decode cX4_byteAt 30 = .ok (.invokevirtual 312, 3) := dk_182 1 56 (dk_at dksX4_byteAt_1 6 rfl rfl)
theorem dX4_byteAt_33 : decode cX4_byteAt 33 = .ok (.ireturn, 1) := dk_172 (dk_at dksX4_byteAt_1 9 rfl rfl)
theorem q2527 : (Jvm.Cond.code ({ cls := "DebateHallModel", name := "isIn", desc := "(III)Z" } : Jvm.MethodName) prog_25_method_6_code (3 : Nat) (Option.some Jvm.ClassFile.FieldType.boolean)) ∈ lw_all := lw_g (lw_at lw_m11 47 rfl) rfl
theorem zk_X4_isIn : zz_cd yX4_isIn cX4_isIn 3 (some .boolean) none ∈ lw_all := q2527
theorem zy_X4_isIn : zz_yok yX4_isIn 3 = true := by decide +kernel
theorem q2520 : (Jvm.Cond.code ({ cls := "DebateHallModel", name := "no", desc := "(I)I" } : Jvm.MethodName) prog_25_method_5_code (2 : Nat) (Option.some Jvm.ClassFile.FieldType.int)) ∈ lw_all := lw_g (lw_at lw_m11 40 rfl) rfl
theorem zk_X4_no : zz_cd yX4_no cX4_no 2 (some .int) none ∈ lw_all := q2520
theorem zy_X4_no : zz_yok yX4_no 1 = true := by decide +kernel
theorem q2517 : (Jvm.Cond.methodLink "DebateHallModel" (312 : Nat) ({ cls := "DebateHallModel", name := "no", desc := "(I)I" } : Jvm.MethodName)) ∈ lw_all := lw_g (lw_at lw_m11 37 rfl) rfl
theorem q2519 : (Jvm.Cond.instanceMethod ({ cls := "DebateHallModel", name := "no", desc := "(I)I" } : Jvm.MethodName)) ∈ lw_all := lw_g (lw_at lw_m11 39 rfl) rfl
theorem q2525 : (Jvm.Cond.methodLink "DebateHallModel" (91 : Nat) ({ cls := "DebateHallModel", name := "isIn", desc := "(III)Z" } : Jvm.MethodName)) ∈ lw_all := lw_g (lw_at lw_m11 45 rfl) rfl
theorem q2526 : (Jvm.Cond.static ({ cls := "DebateHallModel", name := "isIn", desc := "(III)Z" } : Jvm.MethodName)) ∈ lw_all := lw_g (lw_at lw_m11 46 rfl) rfl
def wp_X4_byteAt_B33 (Z : zzG) (K : Option Value → zzM → Prop) (s0 : Int32) (M : zzM) : Prop := K (some (.int s0)) M
def wp_X4_byteAt (Z : zzG) (this : Option Nat) (p0 : Int32) (M : zzM) (K : Option Value → zzM → Prop) : Prop := zput Z M this [16] 0 (.int (0 : Int32)) fun M1 => zgI Z M1 this [16] 4 fun x2 => wp_X4_isIn Z p0 (0 : Int32) (x2 - (1 : Int32)) M1 (fun r3 M4 => zrI r3 fun x7 => if x7 = 0 then (zty Z M4 this fun t => t = 16 ∧ wp_X4_no Z this (1 : Int32) M4 (fun r8 M9 => zrI r8 fun x12 => wp_X4_byteAt_B33 Z K x12 M9)) else (zgA Z M4 this [16] 5 fun x13 => zaI Z M4 x13 [100] p0 fun x14 => wp_X4_byteAt_B33 Z K x14 M4))
theorem ok_X4_byteAt_B33 {G : zzX} (C : zz_C G cX4_byteAt "DebateHallModel" 2) {K : Option Value → zzM → Prop} (E : zz_E G (some .int) K (fun _ _ _ => False)) (hH : zz_H G []) (hR : zz_Rm G 2) {s0 : Int32} {M : zzM} {bc bs : Nat} (hw : wp_X4_byteAt_B33 (zz_Zof G) K s0 M) : zz_T G 2 M bc bs 33 [] [.int s0] := by
  unfold wp_X4_byteAt_B33 at hw
  exact zz_iret C E dX4_byteAt_33 hw
theorem ok_X4_byteAt {Z : zzG} {l : Launch} (hl : l.stackTraces = false) {this : Option Nat} {p0 : Int32} {M : zzM} {mc ms : Nat} {K : Option Value → zzM → Prop} (hw : wp_X4_byteAt Z this p0 M K) : zz_Met Z l yX4_byteAt (zz_ws yX4_byteAt cX4_byteAt 2 (some .int) none) 2 [va_rf this, .int p0] M mc ms K (fun _ _ _ => False) := by
  refine zz_ofW hl (plainFor_of_name (by decide)) (by simp only [zz_sl0, zz_slI, zz_slJ, zz_slA] <;> decide) (fun G hZ hll C E hH hR hin => ?_)
  subst hZ
  subst hll
  rw [show lv_args 0 [va_rf this, .int p0] = [(0, va_rf this), (1, .int p0)] by simp only [zz_la0, zz_laI, zz_laJ, zz_laA]]
  unfold wp_X4_byteAt at hw
  refine zz_aload_n C dX4_byteAt_0 rfl 0 rfl ?_
  refine zz_iconst (v := (0 : Int32)) C dX4_byteAt_1 (by decide) ?_
  refine zz_put C dX4_byteAt_2 (Or.inl q2436) zf_16_0_ebateHallModel zp_16_0 (zz_hn1 ⟨rfl, rfl⟩) hw (fun M1 hw => ?_)
  refine zz_iload_n C dX4_byteAt_5 rfl 1 rfl ?_
  refine zz_iconst (v := (0 : Int32)) C dX4_byteAt_6 (by decide) ?_
  refine zz_aload_n C dX4_byteAt_7 rfl 0 rfl ?_
  refine zz_getI C dX4_byteAt_8 (Or.inl q2440) zf_16_4_ebateHallModel hw (fun x2 hw => ?_)
  refine zz_iconst (v := (1 : Int32)) C dX4_byteAt_11 (by decide) ?_
  refine zz_isub C dX4_byteAt_12 ?_
  refine zz_callS (As := [.int p0, .int (0 : Int32), .int (x2 - (1 : Int32))]) (rest := []) (mc := 0) (ms := 0) C hR dX4_byteAt_13 (Or.inl q2525) q2526 zl_DebateHallModel zk_X4_isIn (Or.inl rfl) zy_X4_isIn (by decide) (by decide) (ok_X4_isIn (zz_hl C) hw) (Nat.zero_le _) (Nat.zero_le _) (zz_cat10 _ (Nat.le_of_ble_eq_true rfl)) (fun r3 M4 hw => zz_kI hw (fun x7 hw => ?_)) (fun _ _ _ h9 => h9.elim) rfl
  refine zz_if_eq (tgt := 28) C dX4_byteAt_16 (by decide) hw (fun hw => ?_) (fun hw => ?_)
  · refine zz_aload_n C dX4_byteAt_28 rfl 0 rfl ?_
    refine zz_iconst (v := (1 : Int32)) C dX4_byteAt_29 (by decide) ?_
    obtain ⟨a9, t9, b9, fs9, hro, hL, rfl, hw⟩ := ztyS hw
    refine zz_callV (r := (zR_16, zT_16, 24)) (As := [.int (1 : Int32)]) (rest := []) (mc := 0) (ms := 0) C hR hro dX4_byteAt_30 (Or.inl q2517) q2519 (Or.inl qs32) zl_DebateHallModel zk_X4_no (Or.inl rfl) zy_X4_no rfl (by decide) (by decide) hL (ok_X4_no (zz_hl C) hw) (Nat.zero_le _) (Nat.zero_le _) (zz_cat10 _ (Nat.le_of_ble_eq_true rfl)) (fun r8 M9 hw => zz_kI hw (fun x12 hw => ?_)) (fun _ _ _ h9 => h9.elim) rfl
    refine zz_subP [] rfl ?_
    exact ok_X4_byteAt_B33 C E hH hR hw
  · refine zz_aload_n C dX4_byteAt_19 rfl 0 rfl ?_
    refine zz_getA C dX4_byteAt_20 (Or.inl q2441) zf_16_5_ebateHallModel hw (fun x13 hw => ?_)
    refine zz_iload_n C dX4_byteAt_23 rfl 1 rfl ?_
    refine zz_iald C dX4_byteAt_24 hw (fun x14 hw => ?_)
    refine zz_goto (tgt := 33) C dX4_byteAt_25 (by decide) ?_
    refine zz_subP [] rfl ?_
    exact ok_X4_byteAt_B33 C E hH hR hw
abbrev cX4_thrown : ByteArray := prog_25_method_4_code
def yX4_thrown : MethodName := ⟨"DebateHallModel", "thrown", "()I"⟩
theorem dX4_thrown_0 : decode cX4_thrown 0 = .ok (.aload_n 0, 1) := by decide +kernel
theorem dX4_thrown_1 : decode cX4_thrown 1 = .ok (.getfield 85, 3) := by decide +kernel
theorem dX4_thrown_4 : decode cX4_thrown 4 = .ok (.ireturn, 1) := by decide +kernel
def wp_X4_thrown (Z : zzG) (this : Option Nat) (M : zzM) (K : Option Value → zzM → Prop) : Prop := zgI Z M this [16] 0 fun x1 => K (some (.int x1)) M
theorem ok_X4_thrown {Z : zzG} {l : Launch} (hl : l.stackTraces = false) {this : Option Nat} {M : zzM} {mc ms : Nat} {K : Option Value → zzM → Prop} (hw : wp_X4_thrown Z this M K) : zz_Met Z l yX4_thrown (zz_ws yX4_thrown cX4_thrown 1 (some .int) none) 1 [va_rf this] M mc ms K (fun _ _ _ => False) := by
  refine zz_ofW hl (plainFor_of_name (by decide)) (by simp only [zz_sl0, zz_slI, zz_slJ, zz_slA] <;> decide) (fun G hZ hll C E hH hR hin => ?_)
  subst hZ
  subst hll
  rw [show lv_args 0 [va_rf this] = [(0, va_rf this)] by simp only [zz_la0, zz_laI, zz_laJ, zz_laA]]
  unfold wp_X4_thrown at hw
  refine zz_aload_n C dX4_thrown_0 rfl 0 rfl ?_
  refine zz_getI C dX4_thrown_1 (Or.inl q2436) zf_16_0_ebateHallModel hw (fun x1 hw => ?_)
  exact zz_iret C E dX4_thrown_4 hw
abbrev cJ15_newLength : ByteArray := prog_78_method_27_code
def yJ15_newLength : MethodName := ⟨"jdk/internal/util/ArraysSupport", "newLength", "(III)I"⟩
def dkwJ15_newLength_1 : List UInt8 := [184, 0, 201, 172]
abbrev dktJ15_newLength_1 : List UInt8 := dkwJ15_newLength_1 ++ []
def dkwJ15_newLength_0 : List UInt8 := [26, 27, 28, 184, 0, 194, 96, 62, 3, 29, 162, 0, 11, 29, 18, 200, 163, 0, 5, 29, 172, 26, 27]
abbrev dktJ15_newLength_0 : List UInt8 := dkwJ15_newLength_0 ++ dktJ15_newLength_1
theorem dksJ15_newLength_0 : cJ15_newLength.data.toList.drop 0 = dktJ15_newLength_0 := by decide +kernel
theorem dksJ15_newLength_1 : cJ15_newLength.data.toList.drop 23 = dktJ15_newLength_1 := dk_seg dksJ15_newLength_0 23 rfl rfl
theorem dJ15_newLength_0 : decode cJ15_newLength 0 = .ok (.iload_n 0, 1) := dk_26 (dk_at dksJ15_newLength_0 0 rfl rfl)
theorem dJ15_newLength_1 : decode cJ15_newLength 1 = .ok (.iload_n 1, 1) := dk_27 (dk_at dksJ15_newLength_0 1 rfl rfl)
theorem dJ15_newLength_2 : decode cJ15_newLength 2 = .ok (.iload_n 2, 1) := dk_28 (dk_at dksJ15_newLength_0 2 rfl rfl)
theorem dJ15_newLength_3 : decode cJ15_newLength 3 = .ok (.invokestatic 194, 3) := dk_184 0 194 (dk_at dksJ15_newLength_0 3 rfl rfl)
theorem dJ15_newLength_6 : decode cJ15_newLength 6 = .ok (.iadd, 1) := dk_96 (dk_at dksJ15_newLength_0 6 rfl rfl)
theorem dJ15_newLength_7 : decode cJ15_newLength 7 = .ok (.istore_n 3, 1) := dk_62 (dk_at dksJ15_newLength_0 7 rfl rfl)
theorem dJ15_newLength_8 : decode cJ15_newLength 8 = .ok (.iconst 0, 1) := dk_3 (dk_at dksJ15_newLength_0 8 rfl rfl)
theorem dJ15_newLength_9 : decode cJ15_newLength 9 = .ok (.iload_n 3, 1) := dk_29 (dk_at dksJ15_newLength_0 9 rfl rfl)
theorem dJ15_newLength_10 : decode cJ15_newLength 10 = .ok (.if_icmp .ge 11, 3) := dk_162 0 11 (dk_at dksJ15_newLength_0 10 rfl rfl)
theorem dJ15_newLength_13 : decode cJ15_newLength 13 = .ok (.iload_n 3, 1) := dk_29 (dk_at dksJ15_newLength_0 13 rfl rfl)
theorem dJ15_newLength_14 : decode cJ15_newLength 14 = .ok (.ldc 200, 2) := dk_18 200 (dk_at dksJ15_newLength_0 14 rfl rfl)
theorem dJ15_newLength_16 : decode cJ15_newLength 16 = .ok (.if_icmp .gt 5, 3) := dk_163 0 5 (dk_at dksJ15_newLength_0 16 rfl rfl)
theorem dJ15_newLength_19 : decode cJ15_newLength 19 = .ok (.iload_n 3, 1) := dk_29 (dk_at dksJ15_newLength_0 19 rfl rfl)
theorem dJ15_newLength_20 : decode cJ15_newLength 20 = .ok (.ireturn, 1) := dk_172 (dk_at dksJ15_newLength_0 20 rfl rfl)
theorem dJ15_newLength_21 : decode cJ15_newLength 21 = .ok (.iload_n 0, 1) := dk_26 (dk_at dksJ15_newLength_0 21 rfl rfl)
theorem dJ15_newLength_22 : decode cJ15_newLength 22 = .ok (.iload_n 1, 1) := dk_27 (dk_at dksJ15_newLength_0 22 rfl rfl)
theorem dJ15_newLength_23 : decode cJ15_newLength 23 = .ok (.invokestatic 201, 3) := dk_184 0 201 (dk_at dksJ15_newLength_1 0 rfl rfl)
theorem q421 : (Jvm.Cond.constant "jdk/internal/util/ArraysSupport" (200 : Nat) (2147483639 : Int32)) ∈ lw_all := lw_g (lw_at lw_m2 101 rfl) rfl
theorem q418 : (Jvm.Cond.methodLink "jdk/internal/util/ArraysSupport" (194 : Nat) ({ cls := "java/lang/Math", name := "max", desc := "(II)I" } : Jvm.MethodName)) ∈ lw_all := lw_g (lw_at lw_m2 98 rfl) rfl
def wp_J15_newLength_B21 (Z : zzG) (K : Option Value → zzM → Prop) (v0 : Int32) (v1 : Int32) (M : zzM) : Prop := False
def wp_J15_newLength (Z : zzG) (p0 : Int32) (p1 : Int32) (p2 : Int32) (M : zzM) (K : Option Value → zzM → Prop) : Prop := wp_J16_max Z p1 p2 M (fun r1 M2 => zrI r1 fun x5 => if (p0 + x5) ≤ (0 : Int32) then (wp_J15_newLength_B21 Z K p0 p1 M2) else (if (2147483639 : Int32) < (p0 + x5) then (wp_J15_newLength_B21 Z K p0 p1 M2) else (K (some (.int (p0 + x5))) M2)))
theorem ok_J15_newLength_B21 {G : zzX} (C : zz_C G cJ15_newLength "jdk/internal/util/ArraysSupport" 4) {K : Option Value → zzM → Prop} (E : zz_E G (some .int) K (fun _ _ _ => False)) (hH : zz_H G []) (hR : zz_Rm G 2) {v0 : Int32} {v1 : Int32} {M : zzM} {bc bs : Nat} (hw : wp_J15_newLength_B21 (zz_Zof G) K v0 v1 M) : zz_T G 4 M bc bs 21 [(0, .int v0), (1, .int v1)] [] := by
  unfold wp_J15_newLength_B21 at hw
  refine zz_iload_n C dJ15_newLength_21 rfl 0 rfl ?_
  refine zz_iload_n C dJ15_newLength_22 rfl 1 rfl ?_
  exact hw.elim
theorem ok_J15_newLength {Z : zzG} {l : Launch} (hl : l.stackTraces = false) {p0 : Int32} {p1 : Int32} {p2 : Int32} {M : zzM} {mc ms : Nat} {K : Option Value → zzM → Prop} (hw : wp_J15_newLength Z p0 p1 p2 M K) : zz_Met Z l yJ15_newLength (zz_ws yJ15_newLength cJ15_newLength 4 (some .int) none) 2 [.int p0, .int p1, .int p2] M mc ms K (fun _ _ _ => False) := by
  refine zz_ofW hl (plainFor_of_name (by decide)) (by simp only [zz_sl0, zz_slI, zz_slJ, zz_slA] <;> decide) (fun G hZ hll C E hH hR hin => ?_)
  subst hZ
  subst hll
  rw [show lv_args 0 [.int p0, .int p1, .int p2] = [(0, .int p0), (1, .int p1), (2, .int p2)] by simp only [zz_la0, zz_laI, zz_laJ, zz_laA]]
  unfold wp_J15_newLength at hw
  refine zz_iload_n C dJ15_newLength_0 rfl 0 rfl ?_
  refine zz_iload_n C dJ15_newLength_1 rfl 1 rfl ?_
  refine zz_iload_n C dJ15_newLength_2 rfl 2 rfl ?_
  refine zz_callS (As := [.int p1, .int p2]) (rest := [.int p0]) (mc := 0) (ms := 0) C hR dJ15_newLength_3 (Or.inl q418) q419 zl_java_lang_Math zk_J16_max (Or.inl rfl) zy_J16_max (by decide) (by decide) (ok_J16_max (zz_hl C) hw) (Nat.zero_le _) (Nat.zero_le _) (zz_cat10 _ (Nat.le_of_ble_eq_true rfl)) (fun r1 M2 hw => zz_kI hw (fun x5 hw => ?_)) (fun _ _ _ h9 => h9.elim) rfl
  refine zz_iadd C dJ15_newLength_6 ?_
  refine zz_istore_n (i := 3) (lv' := [(3, .int (p0 + x5)), (0, .int p0), (1, .int p1), (2, .int p2)]) C dJ15_newLength_7 rfl (by decide) rfl ?_
  refine zz_iconst (v := (0 : Int32)) C dJ15_newLength_8 (by decide) ?_
  refine zz_iload_n C dJ15_newLength_9 rfl 0 rfl ?_
  refine zz_icmp_ge (tgt := 21) C dJ15_newLength_10 (by decide) hw (fun hw => ?_) (fun hw => ?_)
  · refine zz_subP [1, 2] rfl ?_
    exact ok_J15_newLength_B21 C E hH hR hw
  · refine zz_iload_n C dJ15_newLength_13 rfl 0 rfl ?_
    refine zz_ldci C dJ15_newLength_14 q421 ?_
    refine zz_icmp_gt (tgt := 21) C dJ15_newLength_16 (by decide) hw (fun hw => ?_) (fun hw => ?_)
    · refine zz_subP [1, 2] rfl ?_
      exact ok_J15_newLength_B21 C E hH hR hw
    · refine zz_iload_n C dJ15_newLength_19 rfl 0 rfl ?_
      exact zz_iret C E dJ15_newLength_20 hw
abbrev cJ5_newCapacity : ByteArray := prog_28_method_10_code
def yJ5_newCapacity : MethodName := ⟨"java/lang/AbstractStringBuilder", "newCapacity", "(I)I"⟩
def dkwJ5_newCapacity_2 : List UInt8 := [183, 0, 124, 191, 21, 5, 42, 180, 0, 22, 122, 172]
abbrev dktJ5_newCapacity_2 : List UInt8 := dkwJ5_newCapacity_2 ++ []
def dkwJ5_newCapacity_1 : List UInt8 := [180, 0, 22, 120, 96, 184, 0, 114, 54, 5, 21, 5, 18, 39, 160, 0, 13, 187, 0, 120, 89, 18, 122]
abbrev dktJ5_newCapacity_1 : List UInt8 := dkwJ5_newCapacity_1 ++ dktJ5_newCapacity_2
def dkwJ5_newCapacity_0 : List UInt8 := [42, 180, 0, 15, 190, 61, 27, 42, 180, 0, 22, 120, 62, 29, 28, 100, 54, 4, 28, 21, 4, 28, 5, 42]
abbrev dktJ5_newCapacity_0 : List UInt8 := dkwJ5_newCapacity_0 ++ dktJ5_newCapacity_1
theorem dksJ5_newCapacity_0 : cJ5_newCapacity.data.toList.drop 0 = dktJ5_newCapacity_0 := by decide +kernel
theorem dksJ5_newCapacity_1 : cJ5_newCapacity.data.toList.drop 24 = dktJ5_newCapacity_1 := dk_seg dksJ5_newCapacity_0 24 rfl rfl
theorem dksJ5_newCapacity_2 : cJ5_newCapacity.data.toList.drop 47 = dktJ5_newCapacity_2 := dk_seg dksJ5_newCapacity_1 23 rfl rfl
theorem dJ5_newCapacity_0 : decode cJ5_newCapacity 0 = .ok (.aload_n 0, 1) := dk_42 (dk_at dksJ5_newCapacity_0 0 rfl rfl)
theorem dJ5_newCapacity_1 : decode cJ5_newCapacity 1 = .ok (.getfield 15, 3) := dk_180 0 15 (dk_at dksJ5_newCapacity_0 1 rfl rfl)
theorem dJ5_newCapacity_4 : decode cJ5_newCapacity 4 = .ok (.arraylength, 1) := dk_190 (dk_at dksJ5_newCapacity_0 4 rfl rfl)
theorem dJ5_newCapacity_5 : decode cJ5_newCapacity 5 = .ok (.istore_n 2, 1) := dk_61 (dk_at dksJ5_newCapacity_0 5 rfl rfl)
theorem dJ5_newCapacity_6 : decode cJ5_newCapacity 6 = .ok (.iload_n 1, 1) := dk_27 (dk_at dksJ5_newCapacity_0 6 rfl rfl)
theorem dJ5_newCapacity_7 : decode cJ5_newCapacity 7 = .ok (.aload_n 0, 1) := dk_42 (dk_at dksJ5_newCapacity_0 7 rfl rfl)
theorem dJ5_newCapacity_8 : decode cJ5_newCapacity 8 = .ok (.getfield 22, 3) := dk_180 0 22 (dk_at dksJ5_newCapacity_0 8 rfl rfl)
theorem dJ5_newCapacity_11 : decode cJ5_newCapacity 11 = .ok (.ishl, 1) := dk_120 (dk_at dksJ5_newCapacity_0 11 rfl rfl)
theorem dJ5_newCapacity_12 : decode cJ5_newCapacity 12 = .ok (.istore_n 3, 1) := dk_62 (dk_at dksJ5_newCapacity_0 12 rfl rfl)
theorem dJ5_newCapacity_13 : decode cJ5_newCapacity 13 = .ok (.iload_n 3, 1) := dk_29 (dk_at dksJ5_newCapacity_0 13 rfl rfl)
theorem dJ5_newCapacity_14 : decode cJ5_newCapacity 14 = .ok (.iload_n 2, 1) := dk_28 (dk_at dksJ5_newCapacity_0 14 rfl rfl)
theorem dJ5_newCapacity_15 : decode cJ5_newCapacity 15 = .ok (.isub, 1) := dk_100 (dk_at dksJ5_newCapacity_0 15 rfl rfl)
theorem dJ5_newCapacity_16 : decode cJ5_newCapacity 16 = .ok (.istore 4, 2) := dk_54 4 (dk_at dksJ5_newCapacity_0 16 rfl rfl)
theorem dJ5_newCapacity_18 : decode cJ5_newCapacity 18 = .ok (.iload_n 2, 1) := dk_28 (dk_at dksJ5_newCapacity_0 18 rfl rfl)
theorem dJ5_newCapacity_19 : decode cJ5_newCapacity 19 = .ok (.iload 4, 2) := dk_21 4 (dk_at dksJ5_newCapacity_0 19 rfl rfl)
theorem dJ5_newCapacity_21 : decode cJ5_newCapacity 21 = .ok (.iload_n 2, 1) := dk_28 (dk_at dksJ5_newCapacity_0 21 rfl rfl)
theorem dJ5_newCapacity_22 : decode cJ5_newCapacity 22 = .ok (.iconst 2, 1) := dk_5 (dk_at dksJ5_newCapacity_0 22 rfl rfl)
theorem dJ5_newCapacity_23 : decode cJ5_newCapacity 23 = .ok (.aload_n 0, 1) := dk_42 (dk_at dksJ5_newCapacity_0 23 rfl rfl)
theorem dJ5_newCapacity_24 : decode cJ5_newCapacity 24 = .ok (.getfield 22, 3) := dk_180 0 22 (dk_at dksJ5_newCapacity_1 0 rfl rfl)
theorem dJ5_newCapacity_27 : decode cJ5_newCapacity 27 = .ok (.ishl, 1) := dk_120 (dk_at dksJ5_newCapacity_1 3 rfl rfl)
theorem dJ5_newCapacity_28 : decode cJ5_newCapacity 28 = .ok (.iadd, 1) := dk_96 (dk_at dksJ5_newCapacity_1 4 rfl rfl)
theorem dJ5_newCapacity_29 : decode cJ5_newCapacity 29 = .ok (.invokestatic 114, 3) := dk_184 0 114 (dk_at dksJ5_newCapacity_1 5 rfl rfl)
theorem dJ5_newCapacity_32 : decode cJ5_newCapacity 32 = .ok (.istore 5, 2) := dk_54 5 (dk_at dksJ5_newCapacity_1 8 rfl rfl)
theorem dJ5_newCapacity_34 : decode cJ5_newCapacity 34 = .ok (.iload 5, 2) := dk_21 5 (dk_at dksJ5_newCapacity_1 10 rfl rfl)
theorem dJ5_newCapacity_36 : decode cJ5_newCapacity 36 = .ok (.ldc 39, 2) := dk_18 39 (dk_at dksJ5_newCapacity_1 12 rfl rfl)
theorem dJ5_newCapacity_38 : decode cJ5_newCapacity 38 = .ok (.if_icmp .ne 13, 3) := dk_160 0 13 (dk_at dksJ5_newCapacity_1 14 rfl rfl)
theorem dJ5_newCapacity_41 : decode cJ5_newCapacity 41 = .ok (.new 120, 3) := dk_187 0 120 (dk_at dksJ5_newCapacity_1 17 rfl rfl)
theorem dJ5_newCapacity_51 : decode cJ5_newCapacity 51 = .ok (.iload 5, 2) := dk_21 5 (dk_at dksJ5_newCapacity_2 4 rfl rfl)
theorem dJ5_newCapacity_53 : decode cJ5_newCapacity 53 = .ok (.aload_n 0, 1) := dk_42 (dk_at dksJ5_newCapacity_2 6 rfl rfl)
theorem dJ5_newCapacity_54 : decode cJ5_newCapacity 54 = .ok (.getfield 22, 3) := dk_180 0 22 (dk_at dksJ5_newCapacity_2 7 rfl rfl)
theorem dJ5_newCapacity_57 : decode cJ5_newCapacity 57 = .ok (.ishr, 1) := dk_122 (dk_at dksJ5_newCapacity_2 10 rfl rfl)
theorem dJ5_newCapacity_58 : decode cJ5_newCapacity 58 = .ok (.ireturn, 1) := dk_172 (dk_at dksJ5_newCapacity_2 11 rfl rfl)
theorem q417 : (Jvm.Cond.code ({ cls := "jdk/internal/util/ArraysSupport", name := "newLength", desc := "(III)I" } : Jvm.MethodName) prog_78_method_27_code (4 : Nat) (Option.some Jvm.ClassFile.FieldType.int)) ∈ lw_all := lw_g (lw_at lw_m2 97 rfl) rfl
theorem zk_J15_newLength : zz_cd yJ15_newLength cJ15_newLength 4 (some .int) none ∈ lw_all := q417
theorem zy_J15_newLength : zz_yok yJ15_newLength 3 = true := by decide +kernel
theorem q425 : (Jvm.Cond.constant "java/lang/AbstractStringBuilder" (39 : Nat) (2147483647 : Int32)) ∈ lw_all := lw_g (lw_at lw_m2 105 rfl) rfl
theorem q415 : (Jvm.Cond.methodLink "java/lang/AbstractStringBuilder" (114 : Nat) ({ cls := "jdk/internal/util/ArraysSupport", name := "newLength", desc := "(III)I" } : Jvm.MethodName)) ∈ lw_all := lw_g (lw_at lw_m2 95 rfl) rfl
theorem zl_jdk_internal_util_ArraysSupport : Cond.initialized "jdk/internal/util/ArraysSupport" ∈ lw_all := q105
theorem q416 : (Jvm.Cond.static ({ cls := "jdk/internal/util/ArraysSupport", name := "newLength", desc := "(III)I" } : Jvm.MethodName)) ∈ lw_all := lw_g (lw_at lw_m2 96 rfl) rfl
def wp_J5_newCapacity (Z : zzG) (this : Option Nat) (p0 : Int32) (M : zzM) (K : Option Value → zzM → Prop) : Prop := zgA Z M this [20] 0 fun x1 => zlen Z M x1 fun x2 => zgI Z M this [20] 1 fun x3 => zgI Z M this [20] 1 fun x4 => wp_J15_newLength Z x2 ((p0 <<< (x3 &&& 31)) - x2) (x2 + ((2 : Int32) <<< (x4 &&& 31))) M (fun r5 M6 => zrI r5 fun x9 => if x9 = (2147483647 : Int32) then (False) else (zgI Z M6 this [20] 1 fun x10 => K (some (.int (x9 >>> (x10 &&& 31)))) M6))
theorem ok_J5_newCapacity {Z : zzG} {l : Launch} (hl : l.stackTraces = false) {this : Option Nat} {p0 : Int32} {M : zzM} {mc ms : Nat} {K : Option Value → zzM → Prop} (hw : wp_J5_newCapacity Z this p0 M K) : zz_Met Z l yJ5_newCapacity (zz_ws yJ5_newCapacity cJ5_newCapacity 6 (some .int) none) 3 [va_rf this, .int p0] M mc ms K (fun _ _ _ => False) := by
  refine zz_ofW hl (plainFor_of_name (by decide)) (by simp only [zz_sl0, zz_slI, zz_slJ, zz_slA] <;> decide) (fun G hZ hll C E hH hR hin => ?_)
  subst hZ
  subst hll
  rw [show lv_args 0 [va_rf this, .int p0] = [(0, va_rf this), (1, .int p0)] by simp only [zz_la0, zz_laI, zz_laJ, zz_laA]]
  unfold wp_J5_newCapacity at hw
  refine zz_aload_n C dJ5_newCapacity_0 rfl 0 rfl ?_
  refine zz_getA C dJ5_newCapacity_1 (Or.inl q289) zf_20_0_tStringBuilder hw (fun x1 hw => ?_)
  refine zz_alen C dJ5_newCapacity_4 hw (fun x2 hw => ?_)
  refine zz_istore_n (i := 2) (lv' := [(2, .int x2), (0, va_rf this), (1, .int p0)]) C dJ5_newCapacity_5 rfl (by decide) rfl ?_
  refine zz_iload_n C dJ5_newCapacity_6 rfl 2 rfl ?_
  refine zz_aload_n C dJ5_newCapacity_7 rfl 1 rfl ?_
  refine zz_getI C dJ5_newCapacity_8 (Or.inl q290) zf_20_1_tStringBuilder hw (fun x3 hw => ?_)
  refine zz_ishl C dJ5_newCapacity_11 ?_
  refine zz_istore_n (i := 3) (lv' := [(3, .int (p0 <<< (x3 &&& 31))), (2, .int x2), (0, va_rf this), (1, .int p0)]) C dJ5_newCapacity_12 rfl (by decide) rfl ?_
  refine zz_iload_n C dJ5_newCapacity_13 rfl 0 rfl ?_
  refine zz_iload_n C dJ5_newCapacity_14 rfl 1 rfl ?_
  refine zz_isub C dJ5_newCapacity_15 ?_
  refine zz_istore (lv' := [(4, .int ((p0 <<< (x3 &&& 31)) - x2)), (3, .int (p0 <<< (x3 &&& 31))), (2, .int x2), (0, va_rf this), (1, .int p0)]) C dJ5_newCapacity_16 (by decide) rfl ?_
  refine zz_iload_n C dJ5_newCapacity_18 rfl 2 rfl ?_
  refine zz_iload C dJ5_newCapacity_19 0 rfl ?_
  refine zz_iload_n C dJ5_newCapacity_21 rfl 2 rfl ?_
  refine zz_iconst (v := (2 : Int32)) C dJ5_newCapacity_22 (by decide) ?_
  refine zz_aload_n C dJ5_newCapacity_23 rfl 3 rfl ?_
  refine zz_getI C dJ5_newCapacity_24 (Or.inl q290) zf_20_1_tStringBuilder hw (fun x4 hw => ?_)
  refine zz_ishl C dJ5_newCapacity_27 ?_
  refine zz_iadd C dJ5_newCapacity_28 ?_
  refine zz_callS (As := [.int x2, .int ((p0 <<< (x3 &&& 31)) - x2), .int (x2 + ((2 : Int32) <<< (x4 &&& 31)))]) (rest := []) (mc := 0) (ms := 0) C hR dJ5_newCapacity_29 (Or.inl q415) q416 zl_jdk_internal_util_ArraysSupport zk_J15_newLength (Or.inl rfl) zy_J15_newLength (by decide) (by decide) (ok_J15_newLength (zz_hl C) hw) (Nat.zero_le _) (Nat.zero_le _) (zz_cat10 _ (Nat.le_of_ble_eq_true rfl)) (fun r5 M6 hw => zz_kI hw (fun x9 hw => ?_)) (fun _ _ _ h9 => h9.elim) rfl
  refine zz_istore (lv' := [(5, .int x9), (4, .int ((p0 <<< (x3 &&& 31)) - x2)), (3, .int (p0 <<< (x3 &&& 31))), (2, .int x2), (0, va_rf this), (1, .int p0)]) C dJ5_newCapacity_32 (by decide) rfl ?_
  refine zz_iload C dJ5_newCapacity_34 0 rfl ?_
  refine zz_ldci C dJ5_newCapacity_36 q425 ?_
  refine zz_icmp_ne (tgt := 51) C dJ5_newCapacity_38 (by decide) hw (fun hw => ?_) (fun hw => ?_)
  · refine zz_iload C dJ5_newCapacity_51 0 rfl ?_
    refine zz_aload_n C dJ5_newCapacity_53 rfl 4 rfl ?_
    refine zz_getI C dJ5_newCapacity_54 (Or.inl q290) zf_20_1_tStringBuilder hw (fun x10 hw => ?_)
    refine zz_ishr C dJ5_newCapacity_57 ?_
    exact zz_iret C E dJ5_newCapacity_58 hw
  · exact hw.elim
abbrev cJ17_copyOf : ByteArray := prog_61_method_121_code
def yJ17_copyOf : MethodName := ⟨"java/util/Arrays", "copyOf", "([BI)[B"⟩
def dkwJ17_copyOf_1 : List UInt8 := [27, 184, 1, 48, 184, 0, 150, 44, 176]
abbrev dktJ17_copyOf_1 : List UInt8 := dkwJ17_copyOf_1 ++ []
def dkwJ17_copyOf_0 : List UInt8 := [27, 42, 190, 160, 0, 11, 42, 182, 1, 54, 192, 1, 55, 176, 27, 188, 8, 77, 42, 3, 44, 3, 42, 190]
abbrev dktJ17_copyOf_0 : List UInt8 := dkwJ17_copyOf_0 ++ dktJ17_copyOf_1
theorem dksJ17_copyOf_0 : cJ17_copyOf.data.toList.drop 0 = dktJ17_copyOf_0 := by decide +kernel
theorem dksJ17_copyOf_1 : cJ17_copyOf.data.toList.drop 24 = dktJ17_copyOf_1 := dk_seg dksJ17_copyOf_0 24 rfl rfl
theorem dJ17_copyOf_0 : decode cJ17_copyOf 0 = .ok (.iload_n 1, 1) := dk_27 (dk_at dksJ17_copyOf_0 0 rfl rfl)
theorem dJ17_copyOf_1 : decode cJ17_copyOf 1 = .ok (.aload_n 0, 1) := dk_42 (dk_at dksJ17_copyOf_0 1 rfl rfl)
theorem dJ17_copyOf_2 : decode cJ17_copyOf 2 = .ok (.arraylength, 1) := dk_190 (dk_at dksJ17_copyOf_0 2 rfl rfl)
theorem dJ17_copyOf_3 : decode cJ17_copyOf 3 = .ok (.if_icmp .ne 11, 3) := dk_160 0 11 (dk_at dksJ17_copyOf_0 3 rfl rfl)
theorem dJ17_copyOf_6 : decode cJ17_copyOf 6 = .ok (.aload_n 0, 1) := dk_42 (dk_at dksJ17_copyOf_0 6 rfl rfl)
theorem dJ17_copyOf_7 : decode cJ17_copyOf 7 = .ok (.invokevirtual 310, 3) := dk_182 1 54 (dk_at dksJ17_copyOf_0 7 rfl rfl)
theorem dJ17_copyOf_14 : decode cJ17_copyOf 14 = .ok (.iload_n 1, 1) := dk_27 (dk_at dksJ17_copyOf_0 14 rfl rfl)
theorem dJ17_copyOf_15 : decode cJ17_copyOf 15 = .ok (.newarray .byte, 2) := dk_188_8 (dk_at dksJ17_copyOf_0 15 rfl rfl)
theorem dJ17_copyOf_17 : decode cJ17_copyOf 17 = .ok (.astore_n 2, 1) := dk_77 (dk_at dksJ17_copyOf_0 17 rfl rfl)
theorem dJ17_copyOf_18 : decode cJ17_copyOf 18 = .ok (.aload_n 0, 1) := dk_42 (dk_at dksJ17_copyOf_0 18 rfl rfl)
theorem dJ17_copyOf_19 : decode cJ17_copyOf 19 = .ok (.iconst 0, 1) := dk_3 (dk_at dksJ17_copyOf_0 19 rfl rfl)
theorem dJ17_copyOf_20 : decode cJ17_copyOf 20 = .ok (.aload_n 2, 1) := dk_44 (dk_at dksJ17_copyOf_0 20 rfl rfl)
theorem dJ17_copyOf_21 : decode cJ17_copyOf 21 = .ok (.iconst 0, 1) := dk_3 (dk_at dksJ17_copyOf_0 21 rfl rfl)
theorem dJ17_copyOf_22 : decode cJ17_copyOf 22 = .ok (.aload_n 0, 1) := dk_42 (dk_at dksJ17_copyOf_0 22 rfl rfl)
theorem dJ17_copyOf_23 : decode cJ17_copyOf 23 = .ok (.arraylength, 1) := dk_190 (dk_at dksJ17_copyOf_0 23 rfl rfl)
theorem dJ17_copyOf_24 : decode cJ17_copyOf 24 = .ok (.iload_n 1, 1) := dk_27 (dk_at dksJ17_copyOf_1 0 rfl rfl)
theorem dJ17_copyOf_25 : decode cJ17_copyOf 25 = .ok (.invokestatic 304, 3) := dk_184 1 48 (dk_at dksJ17_copyOf_1 1 rfl rfl)
theorem dJ17_copyOf_28 : decode cJ17_copyOf 28 = .ok (.invokestatic 150, 3) := dk_184 0 150 (dk_at dksJ17_copyOf_1 4 rfl rfl)
theorem dJ17_copyOf_31 : decode cJ17_copyOf 31 = .ok (.aload_n 2, 1) := dk_44 (dk_at dksJ17_copyOf_1 7 rfl rfl)
theorem dJ17_copyOf_32 : decode cJ17_copyOf 32 = .ok (.areturn, 1) := dk_176 (dk_at dksJ17_copyOf_1 8 rfl rfl)
theorem q439 : (Jvm.Cond.methodLink "java/util/Arrays" (150 : Nat) ({ cls := "java/lang/System", name := "arraycopy", desc := "(Ljava/lang/Object;ILjava/lang/Object;II)V" } : Jvm.MethodName)) ∈ lw_all := lw_g (lw_at lw_m2 119 rfl) rfl
theorem q441 : (Jvm.Cond.native ({ cls := "java/lang/System", name := "arraycopy", desc := "(Ljava/lang/Object;ILjava/lang/Object;II)V" } : Jvm.MethodName)) ∈ lw_all := lw_g (lw_at lw_m2 121 rfl) rfl
theorem q440 : (Jvm.Cond.static ({ cls := "java/lang/System", name := "arraycopy", desc := "(Ljava/lang/Object;ILjava/lang/Object;II)V" } : Jvm.MethodName)) ∈ lw_all := lw_g (lw_at lw_m2 120 rfl) rfl
theorem q108 : (Jvm.Cond.initialized "java/lang/System") ∈ lw_all := lw_g (lw_at lw_m1 28 rfl) rfl
theorem zl_java_lang_System : Cond.initialized "java/lang/System" ∈ lw_all := q108
theorem q436 : (Jvm.Cond.methodLink "java/util/Arrays" (304 : Nat) ({ cls := "java/lang/Math", name := "min", desc := "(II)I" } : Jvm.MethodName)) ∈ lw_all := lw_g (lw_at lw_m2 116 rfl) rfl
def wp_J17_copyOf (Z : zzG) (p0 : Option Nat) (p1 : Int32) (M : zzM) (bc bs : Nat) (K : Option Value → zzM → Prop) : Prop := zlen Z M p0 fun x1 => if p1 = x1 then (False) else (znar Z M bc bs 101 p1 (.int 0) fun q2 M3 bc4 bs5 => zlen Z M3 p0 fun x6 => wp_J16_min Z x6 p1 M3 (fun r7 M8 => zrI r7 fun x11 => zcopy Z M8 p0 (some q2) (0 : Int32) (0 : Int32) x11 fun M12 => K (some (va_rf (some q2))) M12))
theorem ok_J17_copyOf {Z : zzG} {l : Launch} (hl : l.stackTraces = false) {p0 : Option Nat} {p1 : Int32} {M : zzM} {mc ms : Nat} {K : Option Value → zzM → Prop} (hw : wp_J17_copyOf Z p0 p1 M mc ms K) : zz_Met Z l yJ17_copyOf (zz_ws yJ17_copyOf cJ17_copyOf 3 (some (.array .byte)) none) 2 [va_rf p0, .int p1] M mc ms K (fun _ _ _ => False) := by
  refine zz_ofW hl (plainFor_of_name (by decide)) (by simp only [zz_sl0, zz_slI, zz_slJ, zz_slA] <;> decide) (fun G hZ hll C E hH hR hin => ?_)
  subst hZ
  subst hll
  rw [show lv_args 0 [va_rf p0, .int p1] = [(0, va_rf p0), (1, .int p1)] by simp only [zz_la0, zz_laI, zz_laJ, zz_laA]]
  unfold wp_J17_copyOf at hw
  refine zz_iload_n C dJ17_copyOf_0 rfl 1 rfl ?_
  refine zz_aload_n C dJ17_copyOf_1 rfl 0 rfl ?_
  refine zz_alen C dJ17_copyOf_2 hw (fun x1 hw => ?_)
  refine zz_icmp_ne (tgt := 14) C dJ17_copyOf_3 (by decide) hw (fun hw => ?_) (fun hw => ?_)
  · refine zz_iload_n C dJ17_copyOf_14 rfl 1 rfl ?_
    refine zz_newar (t := 101) (ty := .byte) C dJ17_copyOf_15 rfl rfl (by decide) (fun _ _ h9 => h9) rfl q163 hw (fun q2 M3 bc4 bs5 hw => ?_)
    refine zz_astore_n (i := 2) (lv' := [(2, va_rf (some q2)), (0, va_rf p0), (1, .int p1)]) C dJ17_copyOf_17 rfl (by decide) rfl ?_
    refine zz_aload_n C dJ17_copyOf_18 rfl 1 rfl ?_
    refine zz_iconst (v := (0 : Int32)) C dJ17_copyOf_19 (by decide) ?_
    refine zz_aload_n C dJ17_copyOf_20 rfl 0 rfl ?_
    refine zz_iconst (v := (0 : Int32)) C dJ17_copyOf_21 (by decide) ?_
    refine zz_aload_n C dJ17_copyOf_22 rfl 1 rfl ?_
    refine zz_alen C dJ17_copyOf_23 hw (fun x6 hw => ?_)
    refine zz_iload_n C dJ17_copyOf_24 rfl 2 rfl ?_
    refine zz_callS (As := [.int x6, .int p1]) (rest := [.int (0 : Int32), va_rf (some q2), .int (0 : Int32), va_rf p0]) (mc := 0) (ms := 0) C hR dJ17_copyOf_25 (Or.inl q436) q437 zl_java_lang_Math zk_J16_min (Or.inl rfl) zy_J16_min (by decide) (by decide) (ok_J16_min (zz_hl C) hw) (Nat.zero_le _) (Nat.zero_le _) (zz_cat10 _ (Nat.le_of_ble_eq_true rfl)) (fun r7 M8 hw => zz_kI hw (fun x11 hw => ?_)) (fun _ _ _ h9 => h9.elim) rfl
    refine zz_copy C hR (by decide) dJ17_copyOf_28 q439 q441 q440 zl_java_lang_System (zz_cat10 _ (Nat.le_of_ble_eq_true rfl)) hw (fun M12 hw => ?_)
    refine zz_aload_n C dJ17_copyOf_31 rfl 0 rfl ?_
    exact zz_aret C E (Or.inr ⟨_, rfl⟩) dJ17_copyOf_32 hw
  · refine zz_aload_n C dJ17_copyOf_6 rfl 0 rfl ?_
    exact hw.elim
abbrev cJ5_ensureCapacityInternal : ByteArray := prog_28_method_9_code
def yJ5_ensureCapacityInternal : MethodName := ⟨"java/lang/AbstractStringBuilder", "ensureCapacityInternal", "(I)V"⟩
def dkwJ5_ensureCapacityInternal_1 : List UInt8 := [182, 0, 104, 42, 180, 0, 22, 120, 184, 0, 108, 181, 0, 15, 177]
abbrev dktJ5_ensureCapacityInternal_1 : List UInt8 := dkwJ5_ensureCapacityInternal_1 ++ []
def dkwJ5_ensureCapacityInternal_0 : List UInt8 := [42, 180, 0, 15, 190, 42, 180, 0, 22, 122, 61, 27, 28, 100, 158, 0, 24, 42, 42, 180, 0, 15, 42, 27]
abbrev dktJ5_ensureCapacityInternal_0 : List UInt8 := dkwJ5_ensureCapacityInternal_0 ++ dktJ5_ensureCapacityInternal_1
theorem dksJ5_ensureCapacityInternal_0 : cJ5_ensureCapacityInternal.data.toList.drop 0 = dktJ5_ensureCapacityInternal_0 := by decide +kernel
theorem dksJ5_ensureCapacityInternal_1 : cJ5_ensureCapacityInternal.data.toList.drop 24 = dktJ5_ensureCapacityInternal_1 := dk_seg dksJ5_ensureCapacityInternal_0 24 rfl rfl
theorem dJ5_ensureCapacityInternal_0 : decode cJ5_ensureCapacityInternal 0 = .ok (.aload_n 0, 1) := dk_42 (dk_at dksJ5_ensureCapacityInternal_0 0 rfl rfl)
theorem dJ5_ensureCapacityInternal_1 : decode cJ5_ensureCapacityInternal 1 = .ok (.getfield 15, 3) := dk_180 0 15 (dk_at dksJ5_ensureCapacityInternal_0 1 rfl rfl)
theorem dJ5_ensureCapacityInternal_4 : decode cJ5_ensureCapacityInternal 4 = .ok (.arraylength, 1) := dk_190 (dk_at dksJ5_ensureCapacityInternal_0 4 rfl rfl)
theorem dJ5_ensureCapacityInternal_5 : decode cJ5_ensureCapacityInternal 5 = .ok (.aload_n 0, 1) := dk_42 (dk_at dksJ5_ensureCapacityInternal_0 5 rfl rfl)
theorem dJ5_ensureCapacityInternal_6 : decode cJ5_ensureCapacityInternal 6 = .ok (.getfield 22, 3) := dk_180 0 22 (dk_at dksJ5_ensureCapacityInternal_0 6 rfl rfl)
theorem dJ5_ensureCapacityInternal_9 : decode cJ5_ensureCapacityInternal 9 = .ok (.ishr, 1) := dk_122 (dk_at dksJ5_ensureCapacityInternal_0 9 rfl rfl)
theorem dJ5_ensureCapacityInternal_10 : decode cJ5_ensureCapacityInternal 10 = .ok (.istore_n 2, 1) := dk_61 (dk_at dksJ5_ensureCapacityInternal_0 10 rfl rfl)
theorem dJ5_ensureCapacityInternal_11 : decode cJ5_ensureCapacityInternal 11 = .ok (.iload_n 1, 1) := dk_27 (dk_at dksJ5_ensureCapacityInternal_0 11 rfl rfl)
theorem dJ5_ensureCapacityInternal_12 : decode cJ5_ensureCapacityInternal 12 = .ok (.iload_n 2, 1) := dk_28 (dk_at dksJ5_ensureCapacityInternal_0 12 rfl rfl)
theorem dJ5_ensureCapacityInternal_13 : decode cJ5_ensureCapacityInternal 13 = .ok (.isub, 1) := dk_100 (dk_at dksJ5_ensureCapacityInternal_0 13 rfl rfl)
theorem dJ5_ensureCapacityInternal_14 : decode cJ5_ensureCapacityInternal 14 = .ok (.ifCond .le 24, 3) := dk_158 0 24 (dk_at dksJ5_ensureCapacityInternal_0 14 rfl rfl)
theorem dJ5_ensureCapacityInternal_17 : decode cJ5_ensureCapacityInternal 17 = .ok (.aload_n 0, 1) := dk_42 (dk_at dksJ5_ensureCapacityInternal_0 17 rfl rfl)
theorem dJ5_ensureCapacityInternal_18 : decode cJ5_ensureCapacityInternal 18 = .ok (.aload_n 0, 1) := dk_42 (dk_at dksJ5_ensureCapacityInternal_0 18 rfl rfl)
theorem dJ5_ensureCapacityInternal_19 : decode cJ5_ensureCapacityInternal 19 = .ok (.getfield 15, 3) := dk_180 0 15 (dk_at dksJ5_ensureCapacityInternal_0 19 rfl rfl)
theorem dJ5_ensureCapacityInternal_22 : decode cJ5_ensureCapacityInternal 22 = .ok (.aload_n 0, 1) := dk_42 (dk_at dksJ5_ensureCapacityInternal_0 22 rfl rfl)
theorem dJ5_ensureCapacityInternal_23 : decode cJ5_ensureCapacityInternal 23 = .ok (.iload_n 1, 1) := dk_27 (dk_at dksJ5_ensureCapacityInternal_0 23 rfl rfl)
theorem dJ5_ensureCapacityInternal_24 : decode cJ5_ensureCapacityInternal 24 = .ok (.invokevirtual 104, 3) := dk_182 0 104 (dk_at dksJ5_ensureCapacityInternal_1 0 rfl rfl)
theorem dJ5_ensureCapacityInternal_27 : decode cJ5_ensureCapacityInternal 27 = .ok (.aload_n 0, 1) := dk_42 (dk_at dksJ5_ensureCapacityInternal_1 3 rfl rfl)
theorem dJ5_ensureCapacityInternal_28 : decode cJ5_ensureCapacityInternal 28 = .ok (.getfield 22, 3) := dk_180 0 22 (dk_at dksJ5_ensureCapacityInternal_1 4 rfl rfl)
theorem dJ5_ensureCapacityInternal_31 : decode cJ5_ensureCapacityInternal 31 = .ok (.ishl, 1) := dk_120 (dk_at dksJ5_ensureCapacityInternal_1 7 rfl rfl)
theorem dJ5_ensureCapacityInternal_32 : decode cJ5_ensureCapacityInternal 32 = .ok (.invokestatic 108, 3) := dk_184 0 108 (dk_at dksJ5_ensureCapacityInternal_1 8 rfl rfl)
theorem dJ5_ensureCapacityInternal_35 : decode cJ5_ensureCapacityInternal 35 = .ok (.putfield 15, 3) := dk_181 0 15 (dk_at dksJ5_ensureCapacityInternal_1 11 rfl rfl)
theorem dJ5_ensureCapacityInternal_38 : decode cJ5_ensureCapacityInternal 38 = .ok (.return_, 1) := dk_177 (dk_at dksJ5_ensureCapacityInternal_1 14 rfl rfl)
theorem q414 : (Jvm.Cond.code ({ cls := "java/lang/AbstractStringBuilder", name := "newCapacity", desc := "(I)I" } : Jvm.MethodName) prog_28_method_10_code (6 : Nat) (Option.some Jvm.ClassFile.FieldType.int)) ∈ lw_all := lw_g (lw_at lw_m2 94 rfl) rfl
theorem zk_J5_newCapacity : zz_cd yJ5_newCapacity cJ5_newCapacity 6 (some .int) none ∈ lw_all := q414
theorem zy_J5_newCapacity : zz_yok yJ5_newCapacity 1 = true := by decide +kernel
theorem q428 : (Jvm.Cond.code ({ cls := "java/util/Arrays", name := "copyOf", desc := "([BI)[B" } : Jvm.MethodName) prog_61_method_121_code (3 : Nat) (Option.some (Jvm.ClassFile.FieldType.array Jvm.ClassFile.FieldType.byte))) ∈ lw_all := lw_g (lw_at lw_m2 108 rfl) rfl
theorem zk_J17_copyOf : zz_cd yJ17_copyOf cJ17_copyOf 3 (some (.array .byte)) none ∈ lw_all := q428
theorem zy_J17_copyOf : zz_yok yJ17_copyOf 2 = true := by decide +kernel
theorem q426 : (Jvm.Cond.methodLink "java/lang/AbstractStringBuilder" (108 : Nat) ({ cls := "java/util/Arrays", name := "copyOf", desc := "([BI)[B" } : Jvm.MethodName)) ∈ lw_all := lw_g (lw_at lw_m2 106 rfl) rfl
theorem q107 : (Jvm.Cond.initialized "java/util/Arrays") ∈ lw_all := lw_g (lw_at lw_m1 27 rfl) rfl
theorem zl_java_util_Arrays : Cond.initialized "java/util/Arrays" ∈ lw_all := q107
theorem q427 : (Jvm.Cond.static ({ cls := "java/util/Arrays", name := "copyOf", desc := "([BI)[B" } : Jvm.MethodName)) ∈ lw_all := lw_g (lw_at lw_m2 107 rfl) rfl
theorem q411 : (Jvm.Cond.methodLink "java/lang/AbstractStringBuilder" (104 : Nat) ({ cls := "java/lang/AbstractStringBuilder", name := "newCapacity", desc := "(I)I" } : Jvm.MethodName)) ∈ lw_all := lw_g (lw_at lw_m2 91 rfl) rfl
def wp_J5_ensureCapacityInternal_B38 (Z : zzG) (K : Option Value → zzM → Prop) (M : zzM) (bc bs : Nat) : Prop := K none M
def wp_J5_ensureCapacityInternal (Z : zzG) (this : Option Nat) (p0 : Int32) (M : zzM) (bc bs : Nat) (K : Option Value → zzM → Prop) : Prop := zgA Z M this [20] 0 fun x1 => zlen Z M x1 fun x2 => zgI Z M this [20] 1 fun x3 => if (p0 - (x2 >>> (x3 &&& 31))) ≤ 0 then (wp_J5_ensureCapacityInternal_B38 Z K M bc bs) else (zgA Z M this [20] 0 fun x4 => zty Z M this fun t => t = 20 ∧ wp_J5_newCapacity Z this p0 M (fun r5 M6 => zrI r5 fun x9 => zgI Z M6 this [20] 1 fun x10 => zcc bc bs (fun c s k => wp_J17_copyOf Z x4 (x9 <<< (x10 &&& 31)) M6 c s k) fun r11 M12 bc13 bs14 => zrA r11 fun x15 => zput Z M12 this [20] 0 (va_rf x15) fun M16 => wp_J5_ensureCapacityInternal_B38 Z K M16 bc13 bs14))
theorem ok_J5_ensureCapacityInternal_B38 {G : zzX} (C : zz_C G cJ5_ensureCapacityInternal "java/lang/AbstractStringBuilder" 3) {K : Option Value → zzM → Prop} (E : zz_E G none K (fun _ _ _ => False)) (hH : zz_H G []) (hR : zz_Rm G 4) {M : zzM} {bc bs : Nat} (hw : wp_J5_ensureCapacityInternal_B38 (zz_Zof G) K M bc bs) : zz_T G 3 M bc bs 38 [] [] := by
  unfold wp_J5_ensureCapacityInternal_B38 at hw
  exact zz_vret C E dJ5_ensureCapacityInternal_38 hw
theorem ok_J5_ensureCapacityInternal {Z : zzG} {l : Launch} (hl : l.stackTraces = false) {this : Option Nat} {p0 : Int32} {M : zzM} {mc ms : Nat} {K : Option Value → zzM → Prop} (hw : wp_J5_ensureCapacityInternal Z this p0 M mc ms K) : zz_Met Z l yJ5_ensureCapacityInternal (zz_ws yJ5_ensureCapacityInternal cJ5_ensureCapacityInternal 3 none none) 4 [va_rf this, .int p0] M mc ms K (fun _ _ _ => False) := by
  refine zz_ofW hl (plainFor_of_name (by decide)) (by simp only [zz_sl0, zz_slI, zz_slJ, zz_slA] <;> decide) (fun G hZ hll C E hH hR hin => ?_)
  subst hZ
  subst hll
  rw [show lv_args 0 [va_rf this, .int p0] = [(0, va_rf this), (1, .int p0)] by simp only [zz_la0, zz_laI, zz_laJ, zz_laA]]
  unfold wp_J5_ensureCapacityInternal at hw
  refine zz_aload_n C dJ5_ensureCapacityInternal_0 rfl 0 rfl ?_
  refine zz_getA C dJ5_ensureCapacityInternal_1 (Or.inl q289) zf_20_0_tStringBuilder hw (fun x1 hw => ?_)
  refine zz_alen C dJ5_ensureCapacityInternal_4 hw (fun x2 hw => ?_)
  refine zz_aload_n C dJ5_ensureCapacityInternal_5 rfl 0 rfl ?_
  refine zz_getI C dJ5_ensureCapacityInternal_6 (Or.inl q290) zf_20_1_tStringBuilder hw (fun x3 hw => ?_)
  refine zz_ishr C dJ5_ensureCapacityInternal_9 ?_
  refine zz_istore_n (i := 2) (lv' := [(2, .int (x2 >>> (x3 &&& 31))), (0, va_rf this), (1, .int p0)]) C dJ5_ensureCapacityInternal_10 rfl (by decide) rfl ?_
  refine zz_iload_n C dJ5_ensureCapacityInternal_11 rfl 2 rfl ?_
  refine zz_iload_n C dJ5_ensureCapacityInternal_12 rfl 0 rfl ?_
  refine zz_isub C dJ5_ensureCapacityInternal_13 ?_
  refine zz_if_le (tgt := 38) C dJ5_ensureCapacityInternal_14 (by decide) hw (fun hw => ?_) (fun hw => ?_)
  · refine zz_subP [] rfl ?_
    exact ok_J5_ensureCapacityInternal_B38 C E hH hR hw
  · refine zz_aload_n C dJ5_ensureCapacityInternal_17 rfl 1 rfl ?_
    refine zz_aload_n C dJ5_ensureCapacityInternal_18 rfl 1 rfl ?_
    refine zz_getA C dJ5_ensureCapacityInternal_19 (Or.inl q289) zf_20_0_tStringBuilder hw (fun x4 hw => ?_)
    refine zz_aload_n C dJ5_ensureCapacityInternal_22 rfl 1 rfl ?_
    refine zz_iload_n C dJ5_ensureCapacityInternal_23 rfl 2 rfl ?_
    obtain ⟨a9, t9, b9, fs9, hro, hL, rfl, hw⟩ := ztyS hw
    refine zz_callV (r := (zR_20, zT_20, 4)) (As := [.int p0]) (rest := [va_rf x4, va_rf this]) (mc := 0) (ms := 0) C hR hro dJ5_ensureCapacityInternal_24 (Or.inl q411) q413 (Or.inr (by decide +kernel)) zl_java_lang_AbstractStringBuilder zk_J5_newCapacity (Or.inl rfl) zy_J5_newCapacity rfl (by decide) (by decide) hL (ok_J5_newCapacity (zz_hl C) hw) (Nat.zero_le _) (Nat.zero_le _) (zz_cat10 _ (Nat.le_of_ble_eq_true rfl)) (fun r5 M6 hw => zz_kI hw (fun x9 hw => ?_)) (fun _ _ _ h9 => h9.elim) rfl
    refine zz_aload_n C dJ5_ensureCapacityInternal_27 rfl 1 rfl ?_
    refine zz_getI C dJ5_ensureCapacityInternal_28 (Or.inl q290) zf_20_1_tStringBuilder hw (fun x10 hw => ?_)
    refine zz_ishl C dJ5_ensureCapacityInternal_31 ?_
    obtain ⟨c9, s9, hc9, hs9, hw⟩ := hw
    refine zz_callS (As := [va_rf x4, .int (x9 <<< (x10 &&& 31))]) (rest := [va_rf this]) C hR dJ5_ensureCapacityInternal_32 (Or.inl q426) q427 zl_java_util_Arrays zk_J17_copyOf (Or.inl rfl) zy_J17_copyOf (by decide) (by decide) (ok_J17_copyOf (zz_hl C) hw) hc9 hs9 (zz_cat10 _ (Nat.le_of_ble_eq_true rfl)) (fun r11 M12 hw => zz_kA hw (fun x15 hw => ?_)) (fun _ _ _ h9 => h9.elim) rfl
    refine zz_put C dJ5_ensureCapacityInternal_35 (Or.inl q289) zf_20_0_tStringBuilder zp_20_0 (zz_hn1 (zz_nA _ rfl x15)) hw (fun M16 hw => ?_)
    refine zz_subP [] rfl ?_
    exact ok_J5_ensureCapacityInternal_B38 C E hH hR hw
abbrev cJ5_isLatin1 : ByteArray := prog_28_method_68_code
def yJ5_isLatin1 : MethodName := ⟨"java/lang/AbstractStringBuilder", "isLatin1", "()Z"⟩
def dkwJ5_isLatin1_0 : List UInt8 := [178, 0, 18, 153, 0, 14, 42, 180, 0, 22, 154, 0, 7, 4, 167, 0, 4, 3, 172]
abbrev dktJ5_isLatin1_0 : List UInt8 := dkwJ5_isLatin1_0 ++ []
theorem dksJ5_isLatin1_0 : cJ5_isLatin1.data.toList.drop 0 = dktJ5_isLatin1_0 := by decide +kernel
theorem dJ5_isLatin1_0 : decode cJ5_isLatin1 0 = .ok (.getstatic 18, 3) := dk_178 0 18 (dk_at dksJ5_isLatin1_0 0 rfl rfl)
theorem dJ5_isLatin1_3 : decode cJ5_isLatin1 3 = .ok (.ifCond .eq 14, 3) := dk_153 0 14 (dk_at dksJ5_isLatin1_0 3 rfl rfl)
theorem dJ5_isLatin1_6 : decode cJ5_isLatin1 6 = .ok (.aload_n 0, 1) := dk_42 (dk_at dksJ5_isLatin1_0 6 rfl rfl)
theorem dJ5_isLatin1_7 : decode cJ5_isLatin1 7 = .ok (.getfield 22, 3) := dk_180 0 22 (dk_at dksJ5_isLatin1_0 7 rfl rfl)
theorem dJ5_isLatin1_10 : decode cJ5_isLatin1 10 = .ok (.ifCond .ne 7, 3) := dk_154 0 7 (dk_at dksJ5_isLatin1_0 10 rfl rfl)
theorem dJ5_isLatin1_13 : decode cJ5_isLatin1 13 = .ok (.iconst 1, 1) := dk_4 (dk_at dksJ5_isLatin1_0 13 rfl rfl)
theorem dJ5_isLatin1_14 : decode cJ5_isLatin1 14 = .ok (.goto 4, 3) := dk_167 0 4 (dk_at dksJ5_isLatin1_0 14 rfl rfl)
theorem dJ5_isLatin1_17 : decode cJ5_isLatin1 17 = .ok (.iconst 0, 1) := dk_3 (dk_at dksJ5_isLatin1_0 17 rfl rfl)
theorem dJ5_isLatin1_18 : decode cJ5_isLatin1 18 = .ok (.ireturn, 1) := dk_172 (dk_at dksJ5_isLatin1_0 18 rfl rfl)
def wp_J5_isLatin1_B18 (Z : zzG) (K : Option Value → zzM → Prop) (s0 : Int32) (M : zzM) : Prop := narrow .boolean (.int s0) = .int s0 ∧ K (some (.int s0)) M
def wp_J5_isLatin1_B17 (Z : zzG) (K : Option Value → zzM → Prop) (M : zzM) : Prop := wp_J5_isLatin1_B18 Z K (0 : Int32) M
def wp_J5_isLatin1 (Z : zzG) (this : Option Nat) (M : zzM) (K : Option Value → zzM → Prop) : Prop := if (1 : Int32) = 0 then (wp_J5_isLatin1_B17 Z K M) else (zgI Z M this [20] 1 fun x1 => if x1 = 0 then (wp_J5_isLatin1_B18 Z K (1 : Int32) M) else (wp_J5_isLatin1_B17 Z K M))
theorem ok_J5_isLatin1_B18 {G : zzX} (C : zz_C G cJ5_isLatin1 "java/lang/AbstractStringBuilder" 1) {K : Option Value → zzM → Prop} (E : zz_E G (some .boolean) K (fun _ _ _ => False)) (hH : zz_H G []) (hR : zz_Rm G 1) {s0 : Int32} {M : zzM} {bc bs : Nat} (hw : wp_J5_isLatin1_B18 (zz_Zof G) K s0 M) : zz_T G 1 M bc bs 18 [] [.int s0] := by
  unfold wp_J5_isLatin1_B18 at hw
  exact zz_zret C E dJ5_isLatin1_18 hw
theorem ok_J5_isLatin1_B17 {G : zzX} (C : zz_C G cJ5_isLatin1 "java/lang/AbstractStringBuilder" 1) {K : Option Value → zzM → Prop} (E : zz_E G (some .boolean) K (fun _ _ _ => False)) (hH : zz_H G []) (hR : zz_Rm G 1) {M : zzM} {bc bs : Nat} (hw : wp_J5_isLatin1_B17 (zz_Zof G) K M) : zz_T G 1 M bc bs 17 [] [] := by
  unfold wp_J5_isLatin1_B17 at hw
  refine zz_iconst (v := (0 : Int32)) C dJ5_isLatin1_17 (by decide) ?_
  refine zz_subP [] rfl ?_
  exact ok_J5_isLatin1_B18 C E hH hR hw
theorem ok_J5_isLatin1 {Z : zzG} {l : Launch} (hl : l.stackTraces = false) {this : Option Nat} {M : zzM} {mc ms : Nat} {K : Option Value → zzM → Prop} (hw : wp_J5_isLatin1 Z this M K) : zz_Met Z l yJ5_isLatin1 (zz_ws yJ5_isLatin1 cJ5_isLatin1 1 (some .boolean) none) 1 [va_rf this] M mc ms K (fun _ _ _ => False) := by
  refine zz_ofW hl (plainFor_of_name (by decide)) (by simp only [zz_sl0, zz_slI, zz_slJ, zz_slA] <;> decide) (fun G hZ hll C E hH hR hin => ?_)
  subst hZ
  subst hll
  rw [show lv_args 0 [va_rf this] = [(0, va_rf this)] by simp only [zz_la0, zz_laI, zz_laJ, zz_laA]]
  unfold wp_J5_isLatin1 at hw
  refine zz_gets (j := 14) (v := .int (1 : Int32)) C dJ5_isLatin1_0 (Or.inl q280) rfl (Or.inl rfl) rfl ?_
  refine zz_if_eq (tgt := 17) C dJ5_isLatin1_3 (by decide) hw (fun hw => ?_) (fun hw => ?_)
  · refine zz_subP [] rfl ?_
    exact ok_J5_isLatin1_B17 C E hH hR hw
  · refine zz_aload_n C dJ5_isLatin1_6 rfl 0 rfl ?_
    refine zz_getI C dJ5_isLatin1_7 (Or.inl q290) zf_20_1_tStringBuilder hw (fun x1 hw => ?_)
    refine zz_if_ne (tgt := 17) C dJ5_isLatin1_10 (by decide) hw (fun hw => ?_) (fun hw => ?_)
    · refine zz_subP [] rfl ?_
      exact ok_J5_isLatin1_B17 C E hH hR hw
    · refine zz_iconst (v := (1 : Int32)) C dJ5_isLatin1_13 (by decide) ?_
      refine zz_goto (tgt := 18) C dJ5_isLatin1_14 (by decide) ?_
      refine zz_subP [] rfl ?_
      exact ok_J5_isLatin1_B18 C E hH hR hw
abbrev cJ5_setLength : ByteArray := prog_28_method_13_code
def yJ5_setLength : MethodName := ⟨"java/lang/AbstractStringBuilder", "setLength", "(I)V"⟩
def dkwJ5_setLength_3 : List UInt8 := [164, 0, 8, 42, 4, 181, 0, 73, 42, 27, 181, 0, 79, 177]
abbrev dktJ5_setLength_3 : List UInt8 := dkwJ5_setLength_3 ++ []
def dkwJ5_setLength_2 : List UInt8 := [167, 0, 31, 42, 180, 0, 15, 42, 180, 0, 79, 27, 184, 0, 137, 167, 0, 16, 42, 180, 0, 79, 27]
abbrev dktJ5_setLength_2 : List UInt8 := dkwJ5_setLength_2 ++ dktJ5_setLength_3
def dkwJ5_setLength_1 : List UInt8 := [162, 0, 40, 42, 182, 0, 83, 153, 0, 18, 42, 180, 0, 15, 42, 180, 0, 79, 27, 184, 0, 133]
abbrev dktJ5_setLength_1 : List UInt8 := dkwJ5_setLength_1 ++ dktJ5_setLength_2
def dkwJ5_setLength_0 : List UInt8 := [27, 156, 0, 12, 187, 0, 129, 89, 27, 183, 0, 131, 191, 42, 27, 182, 0, 100, 42, 180, 0, 79, 27]
abbrev dktJ5_setLength_0 : List UInt8 := dkwJ5_setLength_0 ++ dktJ5_setLength_1
theorem dksJ5_setLength_0 : cJ5_setLength.data.toList.drop 0 = dktJ5_setLength_0 := by decide +kernel
theorem dksJ5_setLength_1 : cJ5_setLength.data.toList.drop 23 = dktJ5_setLength_1 := dk_seg dksJ5_setLength_0 23 rfl rfl
theorem dksJ5_setLength_2 : cJ5_setLength.data.toList.drop 45 = dktJ5_setLength_2 := dk_seg dksJ5_setLength_1 22 rfl rfl
theorem dksJ5_setLength_3 : cJ5_setLength.data.toList.drop 68 = dktJ5_setLength_3 := dk_seg dksJ5_setLength_2 23 rfl rfl
theorem dJ5_setLength_0 : decode cJ5_setLength 0 = .ok (.iload_n 1, 1) := dk_27 (dk_at dksJ5_setLength_0 0 rfl rfl)
theorem dJ5_setLength_1 : decode cJ5_setLength 1 = .ok (.ifCond .ge 12, 3) := dk_156 0 12 (dk_at dksJ5_setLength_0 1 rfl rfl)
theorem dJ5_setLength_4 : decode cJ5_setLength 4 = .ok (.new 129, 3) := dk_187 0 129 (dk_at dksJ5_setLength_0 4 rfl rfl)
theorem dJ5_setLength_13 : decode cJ5_setLength 13 = .ok (.aload_n 0, 1) := dk_42 (dk_at dksJ5_setLength_0 13 rfl rfl)
theorem dJ5_setLength_14 : decode cJ5_setLength 14 = .ok (.iload_n 1, 1) := dk_27 (dk_at dksJ5_setLength_0 14 rfl rfl)
theorem dJ5_setLength_15 : decode cJ5_setLength 15 = .ok (.invokevirtual 100, 3) := dk_182 0 100 (dk_at dksJ5_setLength_0 15 rfl rfl)
theorem dJ5_setLength_18 : decode cJ5_setLength 18 = .ok (.aload_n 0, 1) := dk_42 (dk_at dksJ5_setLength_0 18 rfl rfl)
theorem dJ5_setLength_19 : decode cJ5_setLength 19 = .ok (.getfield 79, 3) := dk_180 0 79 (dk_at dksJ5_setLength_0 19 rfl rfl)
theorem dJ5_setLength_22 : decode cJ5_setLength 22 = .ok (.iload_n 1, 1) := dk_27 (dk_at dksJ5_setLength_0 22 rfl rfl)
theorem dJ5_setLength_23 : decode cJ5_setLength 23 = .ok (.if_icmp .ge 40, 3) := dk_162 0 40 (dk_at dksJ5_setLength_1 0 rfl rfl)
theorem dJ5_setLength_26 : decode cJ5_setLength 26 = .ok (.aload_n 0, 1) := dk_42 (dk_at dksJ5_setLength_1 3 rfl rfl)
theorem dJ5_setLength_27 : decode cJ5_setLength 27 = .ok (.invokevirtual 83, 3) := dk_182 0 83 (dk_at dksJ5_setLength_1 4 rfl rfl)
theorem dJ5_setLength_30 : decode cJ5_setLength 30 = .ok (.ifCond .eq 18, 3) := dk_153 0 18 (dk_at dksJ5_setLength_1 7 rfl rfl)
theorem dJ5_setLength_33 : decode cJ5_setLength 33 = .ok (.aload_n 0, 1) := dk_42 (dk_at dksJ5_setLength_1 10 rfl rfl)
theorem dJ5_setLength_34 : decode cJ5_setLength 34 = .ok (.getfield 15, 3) := dk_180 0 15 (dk_at dksJ5_setLength_1 11 rfl rfl)
theorem dJ5_setLength_37 : decode cJ5_setLength 37 = .ok (.aload_n 0, 1) := dk_42 (dk_at dksJ5_setLength_1 14 rfl rfl)
theorem dJ5_setLength_38 : decode cJ5_setLength 38 = .ok (.getfield 79, 3) := dk_180 0 79 (dk_at dksJ5_setLength_1 15 rfl rfl)
theorem dJ5_setLength_41 : decode cJ5_setLength 41 = .ok (.iload_n 1, 1) := dk_27 (dk_at dksJ5_setLength_1 18 rfl rfl)
theorem dJ5_setLength_42 : decode cJ5_setLength 42 = .ok (.invokestatic 133, 3) := dk_184 0 133 (dk_at dksJ5_setLength_1 19 rfl rfl)
theorem dJ5_setLength_48 : decode cJ5_setLength 48 = .ok (.aload_n 0, 1) := dk_42 (dk_at dksJ5_setLength_2 3 rfl rfl)
theorem dJ5_setLength_49 : decode cJ5_setLength 49 = .ok (.getfield 15, 3) := dk_180 0 15 (dk_at dksJ5_setLength_2 4 rfl rfl)
theorem dJ5_setLength_52 : decode cJ5_setLength 52 = .ok (.aload_n 0, 1) := dk_42 (dk_at dksJ5_setLength_2 7 rfl rfl)
theorem dJ5_setLength_53 : decode cJ5_setLength 53 = .ok (.getfield 79, 3) := dk_180 0 79 (dk_at dksJ5_setLength_2 8 rfl rfl)
theorem dJ5_setLength_56 : decode cJ5_setLength 56 = .ok (.iload_n 1, 1) := dk_27 (dk_at dksJ5_setLength_2 11 rfl rfl)
theorem dJ5_setLength_57 : decode cJ5_setLength 57 = .ok (.invokestatic 137, 3) := dk_184 0 137 (dk_at dksJ5_setLength_2 12 rfl rfl)
theorem dJ5_setLength_63 : decode cJ5_setLength 63 = .ok (.aload_n 0, 1) := dk_42 (dk_at dksJ5_setLength_2 18 rfl rfl)
theorem dJ5_setLength_64 : decode cJ5_setLength 64 = .ok (.getfield 79, 3) := dk_180 0 79 (dk_at dksJ5_setLength_2 19 rfl rfl)
theorem dJ5_setLength_67 : decode cJ5_setLength 67 = .ok (.iload_n 1, 1) := dk_27 (dk_at dksJ5_setLength_2 22 rfl rfl)
theorem dJ5_setLength_68 : decode cJ5_setLength 68 = .ok (.if_icmp .le 8, 3) := dk_164 0 8 (dk_at dksJ5_setLength_3 0 rfl rfl)
theorem dJ5_setLength_71 : decode cJ5_setLength 71 = .ok (.aload_n 0, 1) := dk_42 (dk_at dksJ5_setLength_3 3 rfl rfl)
theorem dJ5_setLength_72 : decode cJ5_setLength 72 = .ok (.iconst 1, 1) := dk_4 (dk_at dksJ5_setLength_3 4 rfl rfl)
theorem dJ5_setLength_73 : decode cJ5_setLength 73 = .ok (.putfield 73, 3) := dk_181 0 73 (dk_at dksJ5_setLength_3 5 rfl rfl)
theorem dJ5_setLength_76 : decode cJ5_setLength 76 = .ok (.aload_n 0, 1) := dk_42 (dk_at dksJ5_setLength_3 8 rfl rfl)
theorem dJ5_setLength_77 : decode cJ5_setLength 77 = .ok (.iload_n 1, 1) := dk_27 (dk_at dksJ5_setLength_3 9 rfl rfl)
theorem dJ5_setLength_78 : decode cJ5_setLength 78 = .ok (.putfield 79, 3) := dk_181 0 79 (dk_at dksJ5_setLength_3 10 rfl rfl)
theorem dJ5_setLength_81 : decode cJ5_setLength 81 = .ok (.return_, 1) := dk_177 (dk_at dksJ5_setLength_3 13 rfl rfl)
theorem q410 : (Jvm.Cond.code ({ cls := "java/lang/AbstractStringBuilder", name := "ensureCapacityInternal", desc := "(I)V" } : Jvm.MethodName) prog_28_method_9_code (3 : Nat) (Option.none : Option Jvm.ClassFile.FieldType)) ∈ lw_all := lw_g (lw_at lw_m2 90 rfl) rfl
theorem zk_J5_ensureCapacityInternal : zz_cd yJ5_ensureCapacityInternal cJ5_ensureCapacityInternal 3 none none ∈ lw_all := q410
theorem zy_J5_ensureCapacityInternal : zz_yok yJ5_ensureCapacityInternal 1 = true := by decide +kernel
theorem zf_20_2_tStringBuilder : zz_fok [20] 2 "java/lang/AbstractStringBuilder" "maybeLatin1" "Z" := zz_fok1 (zR_20, zT_20, 4) rfl (by decide) rfl rfl (Or.inl rfl)
theorem q291 : (Jvm.Cond.fieldLink "java/lang/AbstractStringBuilder" (73 : Nat) "java/lang/AbstractStringBuilder" "maybeLatin1" "Z") ∈ lw_all := lw_g (lw_at lw_m1 211 rfl) rfl
theorem zp_20_2 : zz_pok [20] 2 := zz_pok1 (zR_20, zT_20, 4) (by decide) rfl rfl
theorem q446 : (Jvm.Cond.code ({ cls := "java/lang/AbstractStringBuilder", name := "isLatin1", desc := "()Z" } : Jvm.MethodName) prog_28_method_68_code (1 : Nat) (Option.some Jvm.ClassFile.FieldType.boolean)) ∈ lw_all := lw_g (lw_at lw_m2 126 rfl) rfl
theorem zk_J5_isLatin1 : zz_cd yJ5_isLatin1 cJ5_isLatin1 1 (some .boolean) none ∈ lw_all := q446
theorem zy_J5_isLatin1 : zz_yok yJ5_isLatin1 0 = true := by decide +kernel
theorem q442 : (Jvm.Cond.methodLink "java/lang/AbstractStringBuilder" (83 : Nat) ({ cls := "java/lang/AbstractStringBuilder", name := "isLatin1", desc := "()Z" } : Jvm.MethodName)) ∈ lw_all := lw_g (lw_at lw_m2 122 rfl) rfl
theorem q443 : (Jvm.Cond.instanceMethod ({ cls := "java/lang/AbstractStringBuilder", name := "isLatin1", desc := "()Z" } : Jvm.MethodName)) ∈ lw_all := lw_g (lw_at lw_m2 123 rfl) rfl
theorem q407 : (Jvm.Cond.methodLink "java/lang/AbstractStringBuilder" (100 : Nat) ({ cls := "java/lang/AbstractStringBuilder", name := "ensureCapacityInternal", desc := "(I)V" } : Jvm.MethodName)) ∈ lw_all := lw_g (lw_at lw_m2 87 rfl) rfl
theorem zp_20_3 : zz_pok [20] 3 := zz_pok1 (zR_20, zT_20, 4) (by decide) rfl rfl
def wp_J5_setLength_B76 (Z : zzG) (K : Option Value → zzM → Prop) (v0 : Option Nat) (v1 : Int32) (M : zzM) (bc bs : Nat) : Prop := zput Z M v0 [20] 3 (.int v1) fun M17 => K none M17
def wp_J5_setLength (Z : zzG) (this : Option Nat) (p0 : Int32) (M : zzM) (bc bs : Nat) (K : Option Value → zzM → Prop) : Prop := if 0 ≤ p0 then (zty Z M this fun t => t = 20 ∧ zcc bc bs (fun c s k => wp_J5_ensureCapacityInternal Z this p0 M c s k) fun r1 M2 bc3 bs4 => zrV r1 (zgI Z M2 this [20] 3 fun x5 => if p0 ≤ x5 then (zgI Z M2 this [20] 3 fun x6 => if x6 ≤ p0 then (wp_J5_setLength_B76 Z K this p0 M2 bc3 bs4) else (zfit .boolean (1 : Int32) ∧ zput Z M2 this [20] 2 (.int (1 : Int32)) fun M7 => wp_J5_setLength_B76 Z K this p0 M7 bc3 bs4)) else (zty Z M2 this fun t => t = 20 ∧ wp_J5_isLatin1 Z this M2 (fun r8 M9 => zrI r8 fun x12 => if x12 = 0 then (zgA Z M9 this [20] 0 fun x13 => zgI Z M9 this [20] 3 fun x14 => False) else (zgA Z M9 this [20] 0 fun x15 => zgI Z M9 this [20] 3 fun x16 => False))))) else (False)
theorem ok_J5_setLength_B76 {G : zzX} (C : zz_C G cJ5_setLength "java/lang/AbstractStringBuilder" 2) {K : Option Value → zzM → Prop} (E : zz_E G none K (fun _ _ _ => False)) (hH : zz_H G []) (hR : zz_Rm G 5) {v0 : Option Nat} {v1 : Int32} {M : zzM} {bc bs : Nat} (hw : wp_J5_setLength_B76 (zz_Zof G) K v0 v1 M bc bs) : zz_T G 2 M bc bs 76 [(0, va_rf v0), (1, .int v1)] [] := by
  unfold wp_J5_setLength_B76 at hw
  refine zz_aload_n C dJ5_setLength_76 rfl 0 rfl ?_
  refine zz_iload_n C dJ5_setLength_77 rfl 1 rfl ?_
  refine zz_put C dJ5_setLength_78 (Or.inl q293) zf_20_3_tStringBuilder zp_20_3 (zz_hn1 ⟨rfl, rfl⟩) hw (fun M17 hw => ?_)
  exact zz_vret C E dJ5_setLength_81 hw
theorem ok_J5_setLength {Z : zzG} {l : Launch} (hl : l.stackTraces = false) {this : Option Nat} {p0 : Int32} {M : zzM} {mc ms : Nat} {K : Option Value → zzM → Prop} (hw : wp_J5_setLength Z this p0 M mc ms K) : zz_Met Z l yJ5_setLength (zz_ws yJ5_setLength cJ5_setLength 2 none none) 5 [va_rf this, .int p0] M mc ms K (fun _ _ _ => False) := by
  refine zz_ofW hl (plainFor_of_name (by decide)) (by simp only [zz_sl0, zz_slI, zz_slJ, zz_slA] <;> decide) (fun G hZ hll C E hH hR hin => ?_)
  subst hZ
  subst hll
  rw [show lv_args 0 [va_rf this, .int p0] = [(0, va_rf this), (1, .int p0)] by simp only [zz_la0, zz_laI, zz_laJ, zz_laA]]
  unfold wp_J5_setLength at hw
  refine zz_iload_n C dJ5_setLength_0 rfl 1 rfl ?_
  refine zz_if_ge (tgt := 13) C dJ5_setLength_1 (by decide) hw (fun hw => ?_) (fun hw => ?_)
  · refine zz_aload_n C dJ5_setLength_13 rfl 0 rfl ?_
    refine zz_iload_n C dJ5_setLength_14 rfl 1 rfl ?_
    obtain ⟨a9, t9, b9, fs9, hro, hL, rfl, hw⟩ := ztyS hw
    obtain ⟨c9, s9, hc9, hs9, hw⟩ := hw
    refine zz_callV (r := (zR_20, zT_20, 4)) (As := [.int p0]) (rest := []) C hR hro dJ5_setLength_15 (Or.inl q407) q409 (Or.inr (by decide +kernel)) zl_java_lang_AbstractStringBuilder zk_J5_ensureCapacityInternal (Or.inl rfl) zy_J5_ensureCapacityInternal rfl (by decide) (by decide) hL (ok_J5_ensureCapacityInternal (zz_hl C) hw) hc9 hs9 (zz_cat10 _ (Nat.le_of_ble_eq_true rfl)) (fun r1 M2 hw => zz_kV hw (fun hw => ?_)) (fun _ _ _ h9 => h9.elim) rfl
    refine zz_aload_n C dJ5_setLength_18 rfl 0 rfl ?_
    refine zz_getI C dJ5_setLength_19 (Or.inl q293) zf_20_3_tStringBuilder hw (fun x5 hw => ?_)
    refine zz_iload_n C dJ5_setLength_22 rfl 1 rfl ?_
    refine zz_icmp_ge (tgt := 63) C dJ5_setLength_23 (by decide) hw (fun hw => ?_) (fun hw => ?_)
    · refine zz_aload_n C dJ5_setLength_63 rfl 0 rfl ?_
      refine zz_getI C dJ5_setLength_64 (Or.inl q293) zf_20_3_tStringBuilder hw (fun x6 hw => ?_)
      refine zz_iload_n C dJ5_setLength_67 rfl 1 rfl ?_
      refine zz_icmp_le (tgt := 76) C dJ5_setLength_68 (by decide) hw (fun hw => ?_) (fun hw => ?_)
      · refine zz_subP [0, 1] rfl ?_
        exact ok_J5_setLength_B76 C E hH hR hw
      · refine zz_aload_n C dJ5_setLength_71 rfl 0 rfl ?_
        refine zz_iconst (v := (1 : Int32)) C dJ5_setLength_72 (by decide) ?_
        obtain ⟨hfit, hw⟩ := hw
        refine zz_put C dJ5_setLength_73 (Or.inl q291) zf_20_2_tStringBuilder zp_20_2 (zz_hn1 hfit) hw (fun M7 hw => ?_)
        refine zz_subP [0, 1] rfl ?_
        exact ok_J5_setLength_B76 C E hH hR hw
    · refine zz_aload_n C dJ5_setLength_26 rfl 0 rfl ?_
      obtain ⟨a9, t9, b9, fs9, hro, hL, rfl, hw⟩ := ztyS hw
      refine zz_callV (r := (zR_20, zT_20, 4)) (As := []) (rest := []) (mc := 0) (ms := 0) C hR hro dJ5_setLength_27 (Or.inl q442) q443 (Or.inl q445) zl_java_lang_AbstractStringBuilder zk_J5_isLatin1 (Or.inl rfl) zy_J5_isLatin1 rfl (by decide) (by decide) hL (ok_J5_isLatin1 (zz_hl C) hw) (Nat.zero_le _) (Nat.zero_le _) (zz_cat10 _ (Nat.le_of_ble_eq_true rfl)) (fun r8 M9 hw => zz_kI hw (fun x12 hw => ?_)) (fun _ _ _ h9 => h9.elim) rfl
      refine zz_if_eq (tgt := 48) C dJ5_setLength_30 (by decide) hw (fun hw => ?_) (fun hw => ?_)
      · refine zz_aload_n C dJ5_setLength_48 rfl 0 rfl ?_
        refine zz_getA C dJ5_setLength_49 (Or.inl q289) zf_20_0_tStringBuilder hw (fun x13 hw => ?_)
        refine zz_aload_n C dJ5_setLength_52 rfl 0 rfl ?_
        refine zz_getI C dJ5_setLength_53 (Or.inl q293) zf_20_3_tStringBuilder hw (fun x14 hw => ?_)
        refine zz_iload_n C dJ5_setLength_56 rfl 1 rfl ?_
        exact hw.elim
      · refine zz_aload_n C dJ5_setLength_33 rfl 0 rfl ?_
        refine zz_getA C dJ5_setLength_34 (Or.inl q289) zf_20_0_tStringBuilder hw (fun x15 hw => ?_)
        refine zz_aload_n C dJ5_setLength_37 rfl 0 rfl ?_
        refine zz_getI C dJ5_setLength_38 (Or.inl q293) zf_20_3_tStringBuilder hw (fun x16 hw => ?_)
        refine zz_iload_n C dJ5_setLength_41 rfl 1 rfl ?_
        exact hw.elim
  · exact hw.elim
abbrev cJ6_setLength : ByteArray := prog_47_method_89_code
def yJ6_setLength : MethodName := ⟨"java/lang/StringBuilder", "setLength", "(I)V"⟩
def dkwJ6_setLength_0 : List UInt8 := [42, 27, 183, 1, 77, 177]
abbrev dktJ6_setLength_0 : List UInt8 := dkwJ6_setLength_0 ++ []
theorem dksJ6_setLength_0 : cJ6_setLength.data.toList.drop 0 = dktJ6_setLength_0 := by decide +kernel
theorem dJ6_setLength_0 : decode cJ6_setLength 0 = .ok (.aload_n 0, 1) := dk_42 (dk_at dksJ6_setLength_0 0 rfl rfl)
theorem dJ6_setLength_1 : decode cJ6_setLength 1 = .ok (.iload_n 1, 1) := dk_27 (dk_at dksJ6_setLength_0 1 rfl rfl)
theorem dJ6_setLength_2 : decode cJ6_setLength 2 = .ok (.invokespecial 333, 3) := dk_183 1 77 (dk_at dksJ6_setLength_0 2 rfl rfl)
theorem dJ6_setLength_5 : decode cJ6_setLength 5 = .ok (.return_, 1) := dk_177 (dk_at dksJ6_setLength_0 5 rfl rfl)
theorem q2042 : (Jvm.Cond.code ({ cls := "java/lang/AbstractStringBuilder", name := "setLength", desc := "(I)V" } : Jvm.MethodName) prog_28_method_13_code (2 : Nat) (Option.none : Option Jvm.ClassFile.FieldType)) ∈ lw_all := lw_g (lw_at lw_m9 42 rfl) rfl
theorem zk_J5_setLength : zz_cd yJ5_setLength cJ5_setLength 2 none none ∈ lw_all := q2042
theorem zy_J5_setLength : zz_yok yJ5_setLength 1 = true := by decide +kernel
theorem q2040 : (Jvm.Cond.methodLink "java/lang/StringBuilder" (333 : Nat) ({ cls := "java/lang/AbstractStringBuilder", name := "setLength", desc := "(I)V" } : Jvm.MethodName)) ∈ lw_all := lw_g (lw_at lw_m9 40 rfl) rfl
theorem q2873 : (Jvm.Cond.sameMethod "java/lang/AbstractStringBuilder" "java/lang/AbstractStringBuilder" "setLength" "(I)V") ∈ lw_all := lw_g (lw_at lw_m12 153 rfl) rfl
theorem q2041 : (Jvm.Cond.instanceMethod ({ cls := "java/lang/AbstractStringBuilder", name := "setLength", desc := "(I)V" } : Jvm.MethodName)) ∈ lw_all := lw_g (lw_at lw_m9 41 rfl) rfl
def wp_J6_setLength (Z : zzG) (this : Option Nat) (p0 : Int32) (M : zzM) (bc bs : Nat) (K : Option Value → zzM → Prop) : Prop := zty Z M this fun t => t = 20 ∧ zcc bc bs (fun c s k => wp_J5_setLength Z this p0 M c s k) fun r1 M2 bc3 bs4 => zrV r1 (K none M2)
theorem ok_J6_setLength {Z : zzG} {l : Launch} (hl : l.stackTraces = false) {this : Option Nat} {p0 : Int32} {M : zzM} {mc ms : Nat} {K : Option Value → zzM → Prop} (hw : wp_J6_setLength Z this p0 M mc ms K) : zz_Met Z l yJ6_setLength (zz_ws yJ6_setLength cJ6_setLength 2 none none) 6 [va_rf this, .int p0] M mc ms K (fun _ _ _ => False) := by
  refine zz_ofW hl (plainFor_of_name (by decide)) (by simp only [zz_sl0, zz_slI, zz_slJ, zz_slA] <;> decide) (fun G hZ hll C E hH hR hin => ?_)
  subst hZ
  subst hll
  rw [show lv_args 0 [va_rf this, .int p0] = [(0, va_rf this), (1, .int p0)] by simp only [zz_la0, zz_laI, zz_laJ, zz_laA]]
  unfold wp_J6_setLength at hw
  refine zz_aload_n C dJ6_setLength_0 rfl 0 rfl ?_
  refine zz_iload_n C dJ6_setLength_1 rfl 1 rfl ?_
  obtain ⟨a9, t9, b9, fs9, hro, hL, rfl, hw⟩ := ztyS hw
  obtain ⟨c9, s9, hc9, hs9, hw⟩ := hw
  refine zz_callSU (r := (zR_20, zT_20, 4)) (As := [.int p0]) (rest := []) C hR hro dJ6_setLength_2 q2040 q2873 q302 q2041 zl_java_lang_AbstractStringBuilder zk_J5_setLength (by decide) zy_J5_setLength rfl (by decide) (by decide) hL (ok_J5_setLength (zz_hl C) hw) hc9 hs9 (zz_cat10 _ (Nat.le_of_ble_eq_true rfl)) (fun r1 M2 hw => zz_kV hw (fun hw => ?_)) (fun _ _ _ h9 => h9.elim) rfl
  exact zz_vret C E dJ6_setLength_5 hw
abbrev cJ7_coder : ByteArray := prog_46_method_152_code
def yJ7_coder : MethodName := ⟨"java/lang/String", "coder", "()B"⟩
def dkwJ7_coder_0 : List UInt8 := [178, 0, 38, 153, 0, 10, 42, 180, 0, 15, 167, 0, 4, 4, 172]
abbrev dktJ7_coder_0 : List UInt8 := dkwJ7_coder_0 ++ []
theorem dksJ7_coder_0 : cJ7_coder.data.toList.drop 0 = dktJ7_coder_0 := by decide +kernel
theorem dJ7_coder_0 : decode cJ7_coder 0 = .ok (.getstatic 38, 3) := dk_178 0 38 (dk_at dksJ7_coder_0 0 rfl rfl)
theorem dJ7_coder_3 : decode cJ7_coder 3 = .ok (.ifCond .eq 10, 3) := dk_153 0 10 (dk_at dksJ7_coder_0 3 rfl rfl)
theorem dJ7_coder_6 : decode cJ7_coder 6 = .ok (.aload_n 0, 1) := dk_42 (dk_at dksJ7_coder_0 6 rfl rfl)
theorem dJ7_coder_7 : decode cJ7_coder 7 = .ok (.getfield 15, 3) := dk_180 0 15 (dk_at dksJ7_coder_0 7 rfl rfl)
theorem dJ7_coder_10 : decode cJ7_coder 10 = .ok (.goto 4, 3) := dk_167 0 4 (dk_at dksJ7_coder_0 10 rfl rfl)
theorem dJ7_coder_13 : decode cJ7_coder 13 = .ok (.iconst 1, 1) := dk_4 (dk_at dksJ7_coder_0 13 rfl rfl)
theorem dJ7_coder_14 : decode cJ7_coder 14 = .ok (.ireturn, 1) := dk_172 (dk_at dksJ7_coder_0 14 rfl rfl)
theorem q634 : (Jvm.Cond.fieldLink "java/lang/String" (38 : Nat) "java/lang/String" "COMPACT_STRINGS" "Z") ∈ lw_all := lw_g (lw_at lw_m3 74 rfl) rfl
theorem zf_21_1_va_lang_String : zz_fok [21] 1 "java/lang/String" "coder" "B" := zz_fok1 (zR_21, zT_21, 4) rfl (by decide) rfl rfl (Or.inl rfl)
theorem q690 : (Jvm.Cond.fieldLink "java/lang/String" (15 : Nat) "java/lang/String" "coder" "B") ∈ lw_all := lw_g (lw_at lw_m3 130 rfl) rfl
def wp_J7_coder_B14 (Z : zzG) (K : Option Value → zzM → Prop) (s0 : Int32) (M : zzM) : Prop := narrow .byte (.int s0) = .int s0 ∧ K (some (.int s0)) M
def wp_J7_coder (Z : zzG) (this : Option Nat) (M : zzM) (K : Option Value → zzM → Prop) : Prop := if (1 : Int32) = 0 then (wp_J7_coder_B14 Z K (1 : Int32) M) else (zgI Z M this [21] 1 fun x1 => wp_J7_coder_B14 Z K x1 M)
theorem ok_J7_coder_B14 {G : zzX} (C : zz_C G cJ7_coder "java/lang/String" 1) {K : Option Value → zzM → Prop} (E : zz_E G (some .byte) K (fun _ _ _ => False)) (hH : zz_H G []) (hR : zz_Rm G 1) {s0 : Int32} {M : zzM} {bc bs : Nat} (hw : wp_J7_coder_B14 (zz_Zof G) K s0 M) : zz_T G 1 M bc bs 14 [] [.int s0] := by
  unfold wp_J7_coder_B14 at hw
  exact zz_zret C E dJ7_coder_14 hw
theorem ok_J7_coder {Z : zzG} {l : Launch} (hl : l.stackTraces = false) {this : Option Nat} {M : zzM} {mc ms : Nat} {K : Option Value → zzM → Prop} (hw : wp_J7_coder Z this M K) : zz_Met Z l yJ7_coder (zz_ws yJ7_coder cJ7_coder 1 (some .byte) none) 1 [va_rf this] M mc ms K (fun _ _ _ => False) := by
  refine zz_ofW hl (plainFor_of_name (by decide)) (by simp only [zz_sl0, zz_slI, zz_slJ, zz_slA] <;> decide) (fun G hZ hll C E hH hR hin => ?_)
  subst hZ
  subst hll
  rw [show lv_args 0 [va_rf this] = [(0, va_rf this)] by simp only [zz_la0, zz_laI, zz_laJ, zz_laA]]
  unfold wp_J7_coder at hw
  refine zz_gets (j := 14) (v := .int (1 : Int32)) C dJ7_coder_0 (Or.inl q634) rfl (Or.inl rfl) rfl ?_
  refine zz_if_eq (tgt := 13) C dJ7_coder_3 (by decide) hw (fun hw => ?_) (fun hw => ?_)
  · refine zz_iconst (v := (1 : Int32)) C dJ7_coder_13 (by decide) ?_
    refine zz_subP [] rfl ?_
    exact ok_J7_coder_B14 C E hH hR hw
  · refine zz_aload_n C dJ7_coder_6 rfl 0 rfl ?_
    refine zz_getI C dJ7_coder_7 (Or.inl q690) zf_21_1_va_lang_String hw (fun x1 hw => ?_)
    refine zz_goto (tgt := 14) C dJ7_coder_10 (by decide) ?_
    refine zz_subP [] rfl ?_
    exact ok_J7_coder_B14 C E hH hR hw
abbrev cJ7_length : ByteArray := prog_46_method_54_code
def yJ7_length : MethodName := ⟨"java/lang/String", "length", "()I"⟩
def dkwJ7_length_0 : List UInt8 := [42, 180, 0, 9, 190, 42, 182, 1, 79, 122, 172]
abbrev dktJ7_length_0 : List UInt8 := dkwJ7_length_0 ++ []
theorem dksJ7_length_0 : cJ7_length.data.toList.drop 0 = dktJ7_length_0 := by decide +kernel
theorem dJ7_length_0 : decode cJ7_length 0 = .ok (.aload_n 0, 1) := dk_42 (dk_at dksJ7_length_0 0 rfl rfl)
theorem dJ7_length_1 : decode cJ7_length 1 = .ok (.getfield 9, 3) := dk_180 0 9 (dk_at dksJ7_length_0 1 rfl rfl)
theorem dJ7_length_4 : decode cJ7_length 4 = .ok (.arraylength, 1) := dk_190 (dk_at dksJ7_length_0 4 rfl rfl)
theorem dJ7_length_5 : decode cJ7_length 5 = .ok (.aload_n 0, 1) := dk_42 (dk_at dksJ7_length_0 5 rfl rfl)
theorem dJ7_length_6 : decode cJ7_length 6 = .ok (.invokevirtual 335, 3) := dk_182 1 79 (dk_at dksJ7_length_0 6 rfl rfl)
theorem dJ7_length_9 : decode cJ7_length 9 = .ok (.ishr, 1) := dk_122 (dk_at dksJ7_length_0 9 rfl rfl)
theorem dJ7_length_10 : decode cJ7_length 10 = .ok (.ireturn, 1) := dk_172 (dk_at dksJ7_length_0 10 rfl rfl)
theorem zf_21_0_va_lang_String : zz_fok [21] 0 "java/lang/String" "value" "[B" := zz_fok1 (zR_21, zT_21, 4) rfl (by decide) rfl rfl (Or.inl rfl)
theorem q689 : (Jvm.Cond.fieldLink "java/lang/String" (9 : Nat) "java/lang/String" "value" "[B") ∈ lw_all := lw_g (lw_at lw_m3 129 rfl) rfl
theorem q633 : (Jvm.Cond.code ({ cls := "java/lang/String", name := "coder", desc := "()B" } : Jvm.MethodName) prog_46_method_152_code (1 : Nat) (Option.some Jvm.ClassFile.FieldType.byte)) ∈ lw_all := lw_g (lw_at lw_m3 73 rfl) rfl
theorem zk_J7_coder : zz_cd yJ7_coder cJ7_coder 1 (some .byte) none ∈ lw_all := q633
theorem zy_J7_coder : zz_yok yJ7_coder 0 = true := by decide +kernel
theorem q630 : (Jvm.Cond.methodLink "java/lang/String" (335 : Nat) ({ cls := "java/lang/String", name := "coder", desc := "()B" } : Jvm.MethodName)) ∈ lw_all := lw_g (lw_at lw_m3 70 rfl) rfl
theorem q631 : (Jvm.Cond.instanceMethod ({ cls := "java/lang/String", name := "coder", desc := "()B" } : Jvm.MethodName)) ∈ lw_all := lw_g (lw_at lw_m3 71 rfl) rfl
theorem q632 : (Jvm.Cond.selects "java/lang/String" ({ cls := "java/lang/String", name := "coder", desc := "()B" } : Jvm.MethodName) ({ cls := "java/lang/String", name := "coder", desc := "()B" } : Jvm.MethodName)) ∈ lw_all := lw_g (lw_at lw_m3 72 rfl) rfl
def wp_J7_length (Z : zzG) (this : Option Nat) (M : zzM) (K : Option Value → zzM → Prop) : Prop := zgA Z M this [21] 0 fun x1 => zlen Z M x1 fun x2 => zty Z M this fun t => t = 21 ∧ wp_J7_coder Z this M (fun r3 M4 => zrI r3 fun x7 => K (some (.int (x2 >>> (x7 &&& 31)))) M4)
theorem ok_J7_length {Z : zzG} {l : Launch} (hl : l.stackTraces = false) {this : Option Nat} {M : zzM} {mc ms : Nat} {K : Option Value → zzM → Prop} (hw : wp_J7_length Z this M K) : zz_Met Z l yJ7_length (zz_ws yJ7_length cJ7_length 1 (some .int) none) 2 [va_rf this] M mc ms K (fun _ _ _ => False) := by
  refine zz_ofW hl (plainFor_of_name (by decide)) (by simp only [zz_sl0, zz_slI, zz_slJ, zz_slA] <;> decide) (fun G hZ hll C E hH hR hin => ?_)
  subst hZ
  subst hll
  rw [show lv_args 0 [va_rf this] = [(0, va_rf this)] by simp only [zz_la0, zz_laI, zz_laJ, zz_laA]]
  unfold wp_J7_length at hw
  refine zz_aload_n C dJ7_length_0 rfl 0 rfl ?_
  refine zz_getA C dJ7_length_1 (Or.inl q689) zf_21_0_va_lang_String hw (fun x1 hw => ?_)
  refine zz_alen C dJ7_length_4 hw (fun x2 hw => ?_)
  refine zz_aload_n C dJ7_length_5 rfl 0 rfl ?_
  obtain ⟨a9, t9, b9, fs9, hro, hL, rfl, hw⟩ := ztyS hw
  refine zz_callV (r := (zR_21, zT_21, 4)) (As := []) (rest := [.int x2]) (mc := 0) (ms := 0) C hR hro dJ7_length_6 (Or.inl q630) q631 (Or.inl q632) zl_java_lang_String zk_J7_coder (Or.inl rfl) zy_J7_coder rfl (by decide) (by decide) hL (ok_J7_coder (zz_hl C) hw) (Nat.zero_le _) (Nat.zero_le _) (zz_cat10 _ (Nat.le_of_ble_eq_true rfl)) (fun r3 M4 hw => zz_kI hw (fun x7 hw => ?_)) (fun _ _ _ h9 => h9.elim) rfl
  refine zz_ishr C dJ7_length_9 ?_
  exact zz_iret C E dJ7_length_10 hw
abbrev cJ5_inflateIfNeededFor : ByteArray := prog_28_method_71_code
def yJ5_inflateIfNeededFor : MethodName := ⟨"java/lang/AbstractStringBuilder", "inflateIfNeededFor", "(Ljava/lang/String;)V"⟩
def dkwJ5_inflateIfNeededFor_0 : List UInt8 := [178, 0, 18, 153, 0, 18, 42, 180, 0, 22, 43, 182, 0, 40, 159, 0, 7, 42, 182, 0, 195, 177]
abbrev dktJ5_inflateIfNeededFor_0 : List UInt8 := dkwJ5_inflateIfNeededFor_0 ++ []
theorem dksJ5_inflateIfNeededFor_0 : cJ5_inflateIfNeededFor.data.toList.drop 0 = dktJ5_inflateIfNeededFor_0 := by decide +kernel
theorem dJ5_inflateIfNeededFor_0 : decode cJ5_inflateIfNeededFor 0 = .ok (.getstatic 18, 3) := dk_178 0 18 (dk_at dksJ5_inflateIfNeededFor_0 0 rfl rfl)
theorem dJ5_inflateIfNeededFor_3 : decode cJ5_inflateIfNeededFor 3 = .ok (.ifCond .eq 18, 3) := dk_153 0 18 (dk_at dksJ5_inflateIfNeededFor_0 3 rfl rfl)
theorem dJ5_inflateIfNeededFor_6 : decode cJ5_inflateIfNeededFor 6 = .ok (.aload_n 0, 1) := dk_42 (dk_at dksJ5_inflateIfNeededFor_0 6 rfl rfl)
theorem dJ5_inflateIfNeededFor_7 : decode cJ5_inflateIfNeededFor 7 = .ok (.getfield 22, 3) := dk_180 0 22 (dk_at dksJ5_inflateIfNeededFor_0 7 rfl rfl)
theorem dJ5_inflateIfNeededFor_10 : decode cJ5_inflateIfNeededFor 10 = .ok (.aload_n 1, 1) := dk_43 (dk_at dksJ5_inflateIfNeededFor_0 10 rfl rfl)
theorem dJ5_inflateIfNeededFor_11 : decode cJ5_inflateIfNeededFor 11 = .ok (.invokevirtual 40, 3) := dk_182 0 40 (dk_at dksJ5_inflateIfNeededFor_0 11 rfl rfl)
theorem dJ5_inflateIfNeededFor_14 : decode cJ5_inflateIfNeededFor 14 = .ok (.if_icmp .eq 7, 3) := dk_159 0 7 (dk_at dksJ5_inflateIfNeededFor_0 14 rfl rfl)
theorem dJ5_inflateIfNeededFor_17 : decode cJ5_inflateIfNeededFor 17 = .ok (.aload_n 0, 1) := dk_42 (dk_at dksJ5_inflateIfNeededFor_0 17 rfl rfl)
theorem dJ5_inflateIfNeededFor_18 : decode cJ5_inflateIfNeededFor 18 = .ok (.invokevirtual 195, 3) := dk_182 0 195 (dk_at dksJ5_inflateIfNeededFor_0 18 rfl rfl)
theorem dJ5_inflateIfNeededFor_21 : decode cJ5_inflateIfNeededFor 21 = .ok (.return_, 1) := dk_177 (dk_at dksJ5_inflateIfNeededFor_0 21 rfl rfl)
theorem q643 : (Jvm.Cond.methodLink "java/lang/AbstractStringBuilder" (40 : Nat) ({ cls := "java/lang/String", name := "coder", desc := "()B" } : Jvm.MethodName)) ∈ lw_all := lw_g (lw_at lw_m3 83 rfl) rfl
def wp_J5_inflateIfNeededFor_B21 (Z : zzG) (K : Option Value → zzM → Prop) (M : zzM) : Prop := K none M
def wp_J5_inflateIfNeededFor (Z : zzG) (this : Option Nat) (p0 : Option Nat) (M : zzM) (K : Option Value → zzM → Prop) : Prop := if (1 : Int32) = 0 then (wp_J5_inflateIfNeededFor_B21 Z K M) else (zgI Z M this [20] 1 fun x1 => zty Z M p0 fun t => t = 21 ∧ wp_J7_coder Z p0 M (fun r2 M3 => zrI r2 fun x6 => if x1 = x6 then (wp_J5_inflateIfNeededFor_B21 Z K M3) else (False)))
theorem ok_J5_inflateIfNeededFor_B21 {G : zzX} (C : zz_C G cJ5_inflateIfNeededFor "java/lang/AbstractStringBuilder" 2) {K : Option Value → zzM → Prop} (E : zz_E G none K (fun _ _ _ => False)) (hH : zz_H G []) (hR : zz_Rm G 2) {M : zzM} {bc bs : Nat} (hw : wp_J5_inflateIfNeededFor_B21 (zz_Zof G) K M) : zz_T G 2 M bc bs 21 [] [] := by
  unfold wp_J5_inflateIfNeededFor_B21 at hw
  exact zz_vret C E dJ5_inflateIfNeededFor_21 hw
theorem ok_J5_inflateIfNeededFor {Z : zzG} {l : Launch} (hl : l.stackTraces = false) {this : Option Nat} {p0 : Option Nat} {M : zzM} {mc ms : Nat} {K : Option Value → zzM → Prop} (hw : wp_J5_inflateIfNeededFor Z this p0 M K) : zz_Met Z l yJ5_inflateIfNeededFor (zz_ws yJ5_inflateIfNeededFor cJ5_inflateIfNeededFor 2 none none) 2 [va_rf this, va_rf p0] M mc ms K (fun _ _ _ => False) := by
  refine zz_ofW hl (plainFor_of_name (by decide)) (by simp only [zz_sl0, zz_slI, zz_slJ, zz_slA] <;> decide) (fun G hZ hll C E hH hR hin => ?_)
  subst hZ
  subst hll
  rw [show lv_args 0 [va_rf this, va_rf p0] = [(0, va_rf this), (1, va_rf p0)] by simp only [zz_la0, zz_laI, zz_laJ, zz_laA]]
  unfold wp_J5_inflateIfNeededFor at hw
  refine zz_gets (j := 14) (v := .int (1 : Int32)) C dJ5_inflateIfNeededFor_0 (Or.inl q280) rfl (Or.inl rfl) rfl ?_
  refine zz_if_eq (tgt := 21) C dJ5_inflateIfNeededFor_3 (by decide) hw (fun hw => ?_) (fun hw => ?_)
  · refine zz_subP [] rfl ?_
    exact ok_J5_inflateIfNeededFor_B21 C E hH hR hw
  · refine zz_aload_n C dJ5_inflateIfNeededFor_6 rfl 0 rfl ?_
    refine zz_getI C dJ5_inflateIfNeededFor_7 (Or.inl q290) zf_20_1_tStringBuilder hw (fun x1 hw => ?_)
    refine zz_aload_n C dJ5_inflateIfNeededFor_10 rfl 1 rfl ?_
    obtain ⟨a9, t9, b9, fs9, hro, hL, rfl, hw⟩ := ztyS hw
    refine zz_callV (r := (zR_21, zT_21, 4)) (As := []) (rest := [.int x1]) (mc := 0) (ms := 0) C hR hro dJ5_inflateIfNeededFor_11 (Or.inl q643) q631 (Or.inl q632) zl_java_lang_String zk_J7_coder (Or.inl rfl) zy_J7_coder rfl (by decide) (by decide) hL (ok_J7_coder (zz_hl C) hw) (Nat.zero_le _) (Nat.zero_le _) (zz_cat10 _ (Nat.le_of_ble_eq_true rfl)) (fun r2 M3 hw => zz_kI hw (fun x6 hw => ?_)) (fun _ _ _ h9 => h9.elim) rfl
    refine zz_icmp_eq (tgt := 21) C dJ5_inflateIfNeededFor_14 (by decide) hw (fun hw => ?_) (fun hw => ?_)
    · refine zz_subP [] rfl ?_
      exact ok_J5_inflateIfNeededFor_B21 C E hH hR hw
    · refine zz_aload_n C dJ5_inflateIfNeededFor_17 rfl 0 rfl ?_
      exact hw.elim
abbrev cJ7_getBytes : ByteArray := prog_46_method_147_code
def yJ7_getBytes : MethodName := ⟨"java/lang/String", "getBytes", "([BIB)V"⟩
def dkwJ7_getBytes_1 : List UInt8 := [184, 0, 212, 167, 0, 18, 42, 180, 0, 9, 3, 43, 28, 42, 180, 0, 9, 190, 184, 0, 106, 177]
abbrev dktJ7_getBytes_1 : List UInt8 := dkwJ7_getBytes_1 ++ []
def dkwJ7_getBytes_0 : List UInt8 := [42, 182, 1, 79, 29, 160, 0, 23, 42, 180, 0, 9, 3, 43, 28, 29, 120, 42, 180, 0, 9, 190]
abbrev dktJ7_getBytes_0 : List UInt8 := dkwJ7_getBytes_0 ++ dktJ7_getBytes_1
theorem dksJ7_getBytes_0 : cJ7_getBytes.data.toList.drop 0 = dktJ7_getBytes_0 := by decide +kernel
theorem dksJ7_getBytes_1 : cJ7_getBytes.data.toList.drop 22 = dktJ7_getBytes_1 := dk_seg dksJ7_getBytes_0 22 rfl rfl
theorem dJ7_getBytes_0 : decode cJ7_getBytes 0 = .ok (.aload_n 0, 1) := dk_42 (dk_at dksJ7_getBytes_0 0 rfl rfl)
theorem dJ7_getBytes_1 : decode cJ7_getBytes 1 = .ok (.invokevirtual 335, 3) := dk_182 1 79 (dk_at dksJ7_getBytes_0 1 rfl rfl)
theorem dJ7_getBytes_4 : decode cJ7_getBytes 4 = .ok (.iload_n 3, 1) := dk_29 (dk_at dksJ7_getBytes_0 4 rfl rfl)
theorem dJ7_getBytes_5 : decode cJ7_getBytes 5 = .ok (.if_icmp .ne 23, 3) := dk_160 0 23 (dk_at dksJ7_getBytes_0 5 rfl rfl)
theorem dJ7_getBytes_8 : decode cJ7_getBytes 8 = .ok (.aload_n 0, 1) := dk_42 (dk_at dksJ7_getBytes_0 8 rfl rfl)
theorem dJ7_getBytes_9 : decode cJ7_getBytes 9 = .ok (.getfield 9, 3) := dk_180 0 9 (dk_at dksJ7_getBytes_0 9 rfl rfl)
theorem dJ7_getBytes_12 : decode cJ7_getBytes 12 = .ok (.iconst 0, 1) := dk_3 (dk_at dksJ7_getBytes_0 12 rfl rfl)
theorem dJ7_getBytes_13 : decode cJ7_getBytes 13 = .ok (.aload_n 1, 1) := dk_43 (dk_at dksJ7_getBytes_0 13 rfl rfl)
theorem dJ7_getBytes_14 : decode cJ7_getBytes 14 = .ok (.iload_n 2, 1) := dk_28 (dk_at dksJ7_getBytes_0 14 rfl rfl)
theorem dJ7_getBytes_15 : decode cJ7_getBytes 15 = .ok (.iload_n 3, 1) := dk_29 (dk_at dksJ7_getBytes_0 15 rfl rfl)
theorem dJ7_getBytes_16 : decode cJ7_getBytes 16 = .ok (.ishl, 1) := dk_120 (dk_at dksJ7_getBytes_0 16 rfl rfl)
theorem dJ7_getBytes_17 : decode cJ7_getBytes 17 = .ok (.aload_n 0, 1) := dk_42 (dk_at dksJ7_getBytes_0 17 rfl rfl)
theorem dJ7_getBytes_18 : decode cJ7_getBytes 18 = .ok (.getfield 9, 3) := dk_180 0 9 (dk_at dksJ7_getBytes_0 18 rfl rfl)
theorem dJ7_getBytes_21 : decode cJ7_getBytes 21 = .ok (.arraylength, 1) := dk_190 (dk_at dksJ7_getBytes_0 21 rfl rfl)
theorem dJ7_getBytes_22 : decode cJ7_getBytes 22 = .ok (.invokestatic 212, 3) := dk_184 0 212 (dk_at dksJ7_getBytes_1 0 rfl rfl)
theorem dJ7_getBytes_25 : decode cJ7_getBytes 25 = .ok (.goto 18, 3) := dk_167 0 18 (dk_at dksJ7_getBytes_1 3 rfl rfl)
theorem dJ7_getBytes_28 : decode cJ7_getBytes 28 = .ok (.aload_n 0, 1) := dk_42 (dk_at dksJ7_getBytes_1 6 rfl rfl)
theorem dJ7_getBytes_29 : decode cJ7_getBytes 29 = .ok (.getfield 9, 3) := dk_180 0 9 (dk_at dksJ7_getBytes_1 7 rfl rfl)
theorem dJ7_getBytes_32 : decode cJ7_getBytes 32 = .ok (.iconst 0, 1) := dk_3 (dk_at dksJ7_getBytes_1 10 rfl rfl)
theorem dJ7_getBytes_33 : decode cJ7_getBytes 33 = .ok (.aload_n 1, 1) := dk_43 (dk_at dksJ7_getBytes_1 11 rfl rfl)
theorem dJ7_getBytes_34 : decode cJ7_getBytes 34 = .ok (.iload_n 2, 1) := dk_28 (dk_at dksJ7_getBytes_1 12 rfl rfl)
theorem dJ7_getBytes_35 : decode cJ7_getBytes 35 = .ok (.aload_n 0, 1) := dk_42 (dk_at dksJ7_getBytes_1 13 rfl rfl)
theorem dJ7_getBytes_36 : decode cJ7_getBytes 36 = .ok (.getfield 9, 3) := dk_180 0 9 (dk_at dksJ7_getBytes_1 14 rfl rfl)
theorem dJ7_getBytes_39 : decode cJ7_getBytes 39 = .ok (.arraylength, 1) := dk_190 (dk_at dksJ7_getBytes_1 17 rfl rfl)
theorem dJ7_getBytes_40 : decode cJ7_getBytes 40 = .ok (.invokestatic 106, 3) := dk_184 0 106 (dk_at dksJ7_getBytes_1 18 rfl rfl)
theorem dJ7_getBytes_43 : decode cJ7_getBytes 43 = .ok (.return_, 1) := dk_177 (dk_at dksJ7_getBytes_1 21 rfl rfl)
theorem q648 : (Jvm.Cond.methodLink "java/lang/String" (212 : Nat) ({ cls := "java/lang/System", name := "arraycopy", desc := "(Ljava/lang/Object;ILjava/lang/Object;II)V" } : Jvm.MethodName)) ∈ lw_all := lw_g (lw_at lw_m3 88 rfl) rfl
def wp_J7_getBytes (Z : zzG) (this : Option Nat) (p0 : Option Nat) (p1 : Int32) (p2 : Int32) (M : zzM) (K : Option Value → zzM → Prop) : Prop := zty Z M this fun t => t = 21 ∧ wp_J7_coder Z this M (fun r1 M2 => zrI r1 fun x5 => if x5 = p2 then (zgA Z M2 this [21] 0 fun x9 => zgA Z M2 this [21] 0 fun x10 => zlen Z M2 x10 fun x11 => zcopy Z M2 x9 p0 (0 : Int32) (p1 <<< (p2 &&& 31)) x11 fun M12 => K none M12) else (zgA Z M2 this [21] 0 fun x6 => zgA Z M2 this [21] 0 fun x7 => zlen Z M2 x7 fun x8 => False))
theorem ok_J7_getBytes {Z : zzG} {l : Launch} (hl : l.stackTraces = false) {this : Option Nat} {p0 : Option Nat} {p1 : Int32} {p2 : Int32} {M : zzM} {mc ms : Nat} {K : Option Value → zzM → Prop} (hw : wp_J7_getBytes Z this p0 p1 p2 M K) : zz_Met Z l yJ7_getBytes (zz_ws yJ7_getBytes cJ7_getBytes 4 none none) 2 [va_rf this, va_rf p0, .int p1, .int p2] M mc ms K (fun _ _ _ => False) := by
  refine zz_ofW hl (plainFor_of_name (by decide)) (by simp only [zz_sl0, zz_slI, zz_slJ, zz_slA] <;> decide) (fun G hZ hll C E hH hR hin => ?_)
  subst hZ
  subst hll
  rw [show lv_args 0 [va_rf this, va_rf p0, .int p1, .int p2] = [(0, va_rf this), (1, va_rf p0), (2, .int p1), (3, .int p2)] by simp only [zz_la0, zz_laI, zz_laJ, zz_laA]]
  unfold wp_J7_getBytes at hw
  refine zz_aload_n C dJ7_getBytes_0 rfl 0 rfl ?_
  obtain ⟨a9, t9, b9, fs9, hro, hL, rfl, hw⟩ := ztyS hw
  refine zz_callV (r := (zR_21, zT_21, 4)) (As := []) (rest := []) (mc := 0) (ms := 0) C hR hro dJ7_getBytes_1 (Or.inl q630) q631 (Or.inl q632) zl_java_lang_String zk_J7_coder (Or.inl rfl) zy_J7_coder rfl (by decide) (by decide) hL (ok_J7_coder (zz_hl C) hw) (Nat.zero_le _) (Nat.zero_le _) (zz_cat10 _ (Nat.le_of_ble_eq_true rfl)) (fun r1 M2 hw => zz_kI hw (fun x5 hw => ?_)) (fun _ _ _ h9 => h9.elim) rfl
  refine zz_iload_n C dJ7_getBytes_4 rfl 3 rfl ?_
  refine zz_icmp_ne (tgt := 28) C dJ7_getBytes_5 (by decide) hw (fun hw => ?_) (fun hw => ?_)
  · refine zz_aload_n C dJ7_getBytes_28 rfl 0 rfl ?_
    refine zz_getA C dJ7_getBytes_29 (Or.inl q689) zf_21_0_va_lang_String hw (fun x6 hw => ?_)
    refine zz_iconst (v := (0 : Int32)) C dJ7_getBytes_32 (by decide) ?_
    refine zz_aload_n C dJ7_getBytes_33 rfl 1 rfl ?_
    refine zz_iload_n C dJ7_getBytes_34 rfl 2 rfl ?_
    refine zz_aload_n C dJ7_getBytes_35 rfl 0 rfl ?_
    refine zz_getA C dJ7_getBytes_36 (Or.inl q689) zf_21_0_va_lang_String hw (fun x7 hw => ?_)
    refine zz_alen C dJ7_getBytes_39 hw (fun x8 hw => ?_)
    exact hw.elim
  · refine zz_aload_n C dJ7_getBytes_8 rfl 0 rfl ?_
    refine zz_getA C dJ7_getBytes_9 (Or.inl q689) zf_21_0_va_lang_String hw (fun x9 hw => ?_)
    refine zz_iconst (v := (0 : Int32)) C dJ7_getBytes_12 (by decide) ?_
    refine zz_aload_n C dJ7_getBytes_13 rfl 1 rfl ?_
    refine zz_iload_n C dJ7_getBytes_14 rfl 2 rfl ?_
    refine zz_iload_n C dJ7_getBytes_15 rfl 3 rfl ?_
    refine zz_ishl C dJ7_getBytes_16 ?_
    refine zz_aload_n C dJ7_getBytes_17 rfl 0 rfl ?_
    refine zz_getA C dJ7_getBytes_18 (Or.inl q689) zf_21_0_va_lang_String hw (fun x10 hw => ?_)
    refine zz_alen C dJ7_getBytes_21 hw (fun x11 hw => ?_)
    refine zz_copy C hR (by decide) dJ7_getBytes_22 q648 q441 q440 zl_java_lang_System (zz_cat10 _ (Nat.le_of_ble_eq_true rfl)) hw (fun M12 hw => ?_)
    refine zz_goto (tgt := 43) C dJ7_getBytes_25 (by decide) ?_
    exact zz_vret C E dJ7_getBytes_43 hw
abbrev cJ5_putStringAt : ByteArray := prog_28_method_73_code
def yJ5_putStringAt : MethodName := ⟨"java/lang/AbstractStringBuilder", "putStringAt", "(ILjava/lang/String;)V"⟩
def dkwJ5_putStringAt_0 : List UInt8 := [42, 44, 182, 1, 141, 44, 42, 180, 0, 15, 27, 42, 180, 0, 22, 182, 1, 143, 177]
abbrev dktJ5_putStringAt_0 : List UInt8 := dkwJ5_putStringAt_0 ++ []
theorem dksJ5_putStringAt_0 : cJ5_putStringAt.data.toList.drop 0 = dktJ5_putStringAt_0 := by decide +kernel
theorem dJ5_putStringAt_0 : decode cJ5_putStringAt 0 = .ok (.aload_n 0, 1) := dk_42 (dk_at dksJ5_putStringAt_0 0 rfl rfl)
theorem dJ5_putStringAt_1 : decode cJ5_putStringAt 1 = .ok (.aload_n 2, 1) := dk_44 (dk_at dksJ5_putStringAt_0 1 rfl rfl)
theorem dJ5_putStringAt_2 : decode cJ5_putStringAt 2 = .ok (.invokevirtual 397, 3) := dk_182 1 141 (dk_at dksJ5_putStringAt_0 2 rfl rfl)
theorem dJ5_putStringAt_5 : decode cJ5_putStringAt 5 = .ok (.aload_n 2, 1) := dk_44 (dk_at dksJ5_putStringAt_0 5 rfl rfl)
theorem dJ5_putStringAt_6 : decode cJ5_putStringAt 6 = .ok (.aload_n 0, 1) := dk_42 (dk_at dksJ5_putStringAt_0 6 rfl rfl)
theorem dJ5_putStringAt_7 : decode cJ5_putStringAt 7 = .ok (.getfield 15, 3) := dk_180 0 15 (dk_at dksJ5_putStringAt_0 7 rfl rfl)
theorem dJ5_putStringAt_10 : decode cJ5_putStringAt 10 = .ok (.iload_n 1, 1) := dk_27 (dk_at dksJ5_putStringAt_0 10 rfl rfl)
theorem dJ5_putStringAt_11 : decode cJ5_putStringAt 11 = .ok (.aload_n 0, 1) := dk_42 (dk_at dksJ5_putStringAt_0 11 rfl rfl)
theorem dJ5_putStringAt_12 : decode cJ5_putStringAt 12 = .ok (.getfield 22, 3) := dk_180 0 22 (dk_at dksJ5_putStringAt_0 12 rfl rfl)
theorem dJ5_putStringAt_15 : decode cJ5_putStringAt 15 = .ok (.invokevirtual 399, 3) := dk_182 1 143 (dk_at dksJ5_putStringAt_0 15 rfl rfl)
theorem dJ5_putStringAt_18 : decode cJ5_putStringAt 18 = .ok (.return_, 1) := dk_177 (dk_at dksJ5_putStringAt_0 18 rfl rfl)
theorem q642 : (Jvm.Cond.code ({ cls := "java/lang/AbstractStringBuilder", name := "inflateIfNeededFor", desc := "(Ljava/lang/String;)V" } : Jvm.MethodName) prog_28_method_71_code (2 : Nat) (Option.none : Option Jvm.ClassFile.FieldType)) ∈ lw_all := lw_g (lw_at lw_m3 82 rfl) rfl
theorem zk_J5_inflateIfNeededFor : zz_cd yJ5_inflateIfNeededFor cJ5_inflateIfNeededFor 2 none none ∈ lw_all := q642
theorem zy_J5_inflateIfNeededFor : zz_yok yJ5_inflateIfNeededFor 1 = true := by decide +kernel
theorem q647 : (Jvm.Cond.code ({ cls := "java/lang/String", name := "getBytes", desc := "([BIB)V" } : Jvm.MethodName) prog_46_method_147_code (4 : Nat) (Option.none : Option Jvm.ClassFile.FieldType)) ∈ lw_all := lw_g (lw_at lw_m3 87 rfl) rfl
theorem zk_J7_getBytes : zz_cd yJ7_getBytes cJ7_getBytes 4 none none ∈ lw_all := q647
theorem zy_J7_getBytes : zz_yok yJ7_getBytes 3 = true := by decide +kernel
theorem q644 : (Jvm.Cond.methodLink "java/lang/AbstractStringBuilder" (399 : Nat) ({ cls := "java/lang/String", name := "getBytes", desc := "([BIB)V" } : Jvm.MethodName)) ∈ lw_all := lw_g (lw_at lw_m3 84 rfl) rfl
theorem q645 : (Jvm.Cond.instanceMethod ({ cls := "java/lang/String", name := "getBytes", desc := "([BIB)V" } : Jvm.MethodName)) ∈ lw_all := lw_g (lw_at lw_m3 85 rfl) rfl
theorem q646 : (Jvm.Cond.selects "java/lang/String" ({ cls := "java/lang/String", name := "getBytes", desc := "([BIB)V" } : Jvm.MethodName) ({ cls := "java/lang/String", name := "getBytes", desc := "([BIB)V" } : Jvm.MethodName)) ∈ lw_all := lw_g (lw_at lw_m3 86 rfl) rfl
theorem q639 : (Jvm.Cond.methodLink "java/lang/AbstractStringBuilder" (397 : Nat) ({ cls := "java/lang/AbstractStringBuilder", name := "inflateIfNeededFor", desc := "(Ljava/lang/String;)V" } : Jvm.MethodName)) ∈ lw_all := lw_g (lw_at lw_m3 79 rfl) rfl
def wp_J5_putStringAt (Z : zzG) (this : Option Nat) (p0 : Int32) (p1 : Option Nat) (M : zzM) (K : Option Value → zzM → Prop) : Prop := zty Z M this fun t => t = 20 ∧ wp_J5_inflateIfNeededFor Z this p1 M (fun r1 M2 => zrV r1 (zgA Z M2 this [20] 0 fun x5 => zgI Z M2 this [20] 1 fun x6 => zty Z M2 p1 fun t => t = 21 ∧ wp_J7_getBytes Z p1 x5 p0 x6 M2 (fun r7 M8 => zrV r7 (K none M8))))
theorem ok_J5_putStringAt {Z : zzG} {l : Launch} (hl : l.stackTraces = false) {this : Option Nat} {p0 : Int32} {p1 : Option Nat} {M : zzM} {mc ms : Nat} {K : Option Value → zzM → Prop} (hw : wp_J5_putStringAt Z this p0 p1 M K) : zz_Met Z l yJ5_putStringAt (zz_ws yJ5_putStringAt cJ5_putStringAt 3 none none) 3 [va_rf this, .int p0, va_rf p1] M mc ms K (fun _ _ _ => False) := by
  refine zz_ofW hl (plainFor_of_name (by decide)) (by simp only [zz_sl0, zz_slI, zz_slJ, zz_slA] <;> decide) (fun G hZ hll C E hH hR hin => ?_)
  subst hZ
  subst hll
  rw [show lv_args 0 [va_rf this, .int p0, va_rf p1] = [(0, va_rf this), (1, .int p0), (2, va_rf p1)] by simp only [zz_la0, zz_laI, zz_laJ, zz_laA]]
  unfold wp_J5_putStringAt at hw
  refine zz_aload_n C dJ5_putStringAt_0 rfl 0 rfl ?_
  refine zz_aload_n C dJ5_putStringAt_1 rfl 2 rfl ?_
  obtain ⟨a9, t9, b9, fs9, hro, hL, rfl, hw⟩ := ztyS hw
  refine zz_callV (r := (zR_20, zT_20, 4)) (As := [va_rf p1]) (rest := []) (mc := 0) (ms := 0) C hR hro dJ5_putStringAt_2 (Or.inl q639) q641 (Or.inr (by decide +kernel)) zl_java_lang_AbstractStringBuilder zk_J5_inflateIfNeededFor (Or.inl rfl) zy_J5_inflateIfNeededFor rfl (by decide) (by decide) hL (ok_J5_inflateIfNeededFor (zz_hl C) hw) (Nat.zero_le _) (Nat.zero_le _) (zz_cat10 _ (Nat.le_of_ble_eq_true rfl)) (fun r1 M2 hw => zz_kV hw (fun hw => ?_)) (fun _ _ _ h9 => h9.elim) rfl
  refine zz_aload_n C dJ5_putStringAt_5 rfl 2 rfl ?_
  refine zz_aload_n C dJ5_putStringAt_6 rfl 0 rfl ?_
  refine zz_getA C dJ5_putStringAt_7 (Or.inl q289) zf_20_0_tStringBuilder hw (fun x5 hw => ?_)
  refine zz_iload_n C dJ5_putStringAt_10 rfl 1 rfl ?_
  refine zz_aload_n C dJ5_putStringAt_11 rfl 0 rfl ?_
  refine zz_getI C dJ5_putStringAt_12 (Or.inl q290) zf_20_1_tStringBuilder hw (fun x6 hw => ?_)
  obtain ⟨a9, t9, b9, fs9, hro, hL, rfl, hw⟩ := ztyS hw
  refine zz_callV (r := (zR_21, zT_21, 4)) (As := [va_rf x5, .int p0, .int x6]) (rest := []) (mc := 0) (ms := 0) C hR hro dJ5_putStringAt_15 (Or.inl q644) q645 (Or.inl q646) zl_java_lang_String zk_J7_getBytes (Or.inl rfl) zy_J7_getBytes rfl (by decide) (by decide) hL (ok_J7_getBytes (zz_hl C) hw) (Nat.zero_le _) (Nat.zero_le _) (zz_cat10 _ (Nat.le_of_ble_eq_true rfl)) (fun r7 M8 hw => zz_kV hw (fun hw => ?_)) (fun _ _ _ h9 => h9.elim) rfl
  exact zz_vret C E dJ5_putStringAt_18 hw
abbrev cJ5_append_3 : ByteArray := prog_28_method_22_code
def yJ5_append_3 : MethodName := ⟨"java/lang/AbstractStringBuilder", "append", "(Ljava/lang/String;)Ljava/lang/AbstractStringBuilder;"⟩
def dkwJ5_append_3_1 : List UInt8 := [42, 42, 180, 0, 79, 43, 182, 0, 208, 42, 89, 180, 0, 79, 28, 96, 181, 0, 79, 42, 176]
abbrev dktJ5_append_3_1 : List UInt8 := dkwJ5_append_3_1 ++ []
def dkwJ5_append_3_0 : List UInt8 := [43, 199, 0, 8, 42, 182, 0, 204, 176, 43, 182, 0, 32, 61, 42, 42, 180, 0, 79, 28, 96, 182, 0, 100]
abbrev dktJ5_append_3_0 : List UInt8 := dkwJ5_append_3_0 ++ dktJ5_append_3_1
theorem dksJ5_append_3_0 : cJ5_append_3.data.toList.drop 0 = dktJ5_append_3_0 := by decide +kernel
theorem dksJ5_append_3_1 : cJ5_append_3.data.toList.drop 24 = dktJ5_append_3_1 := dk_seg dksJ5_append_3_0 24 rfl rfl
theorem dJ5_append_3_0 : decode cJ5_append_3 0 = .ok (.aload_n 1, 1) := dk_43 (dk_at dksJ5_append_3_0 0 rfl rfl)
theorem dJ5_append_3_1 : decode cJ5_append_3 1 = .ok (.ifnonnull 8, 3) := dk_199 0 8 (dk_at dksJ5_append_3_0 1 rfl rfl)
theorem dJ5_append_3_4 : decode cJ5_append_3 4 = .ok (.aload_n 0, 1) := dk_42 (dk_at dksJ5_append_3_0 4 rfl rfl)
theorem dJ5_append_3_5 : decode cJ5_append_3 5 = .ok (.invokevirtual 204, 3) := dk_182 0 204 (dk_at dksJ5_append_3_0 5 rfl rfl)
theorem dJ5_append_3_9 : decode cJ5_append_3 9 = .ok (.aload_n 1, 1) := dk_43 (dk_at dksJ5_append_3_0 9 rfl rfl)
theorem dJ5_append_3_10 : decode cJ5_append_3 10 = .ok (.invokevirtual 32, 3) := dk_182 0 32 (dk_at dksJ5_append_3_0 10 rfl rfl)
theorem dJ5_append_3_13 : decode cJ5_append_3 13 = .ok (.istore_n 2, 1) := dk_61 (dk_at dksJ5_append_3_0 13 rfl rfl)
theorem dJ5_append_3_14 : decode cJ5_append_3 14 = .ok (.aload_n 0, 1) := dk_42 (dk_at dksJ5_append_3_0 14 rfl rfl)
theorem dJ5_append_3_15 : decode cJ5_append_3 15 = .ok (.aload_n 0, 1) := dk_42 (dk_at dksJ5_append_3_0 15 rfl rfl)
theorem dJ5_append_3_16 : decode cJ5_append_3 16 = .ok (.getfield 79, 3) := dk_180 0 79 (dk_at dksJ5_append_3_0 16 rfl rfl)
theorem dJ5_append_3_19 : decode cJ5_append_3 19 = .ok (.iload_n 2, 1) := dk_28 (dk_at dksJ5_append_3_0 19 rfl rfl)
theorem dJ5_append_3_20 : decode cJ5_append_3 20 = .ok (.iadd, 1) := dk_96 (dk_at dksJ5_append_3_0 20 rfl rfl)
theorem dJ5_append_3_21 : decode cJ5_append_3 21 = .ok (.invokevirtual 100, 3) := dk_182 0 100 (dk_at dksJ5_append_3_0 21 rfl rfl)
theorem dJ5_append_3_24 : decode cJ5_append_3 24 = .ok (.aload_n 0, 1) := dk_42 (dk_at dksJ5_append_3_1 0 rfl rfl)
theorem dJ5_append_3_25 : decode cJ5_append_3 25 = .ok (.aload_n 0, 1) := dk_42 (dk_at dksJ5_append_3_1 1 rfl rfl)
theorem dJ5_append_3_26 : decode cJ5_append_3 26 = .ok (.getfield 79, 3) := dk_180 0 79 (dk_at dksJ5_append_3_1 2 rfl rfl)
theorem dJ5_append_3_29 : decode cJ5_append_3 29 = .ok (.aload_n 1, 1) := dk_43 (dk_at dksJ5_append_3_1 5 rfl rfl)
theorem dJ5_append_3_30 : decode cJ5_append_3 30 = .ok (.invokevirtual 208, 3) := dk_182 0 208 (dk_at dksJ5_append_3_1 6 rfl rfl)
theorem dJ5_append_3_33 : decode cJ5_append_3 33 = .ok (.aload_n 0, 1) := dk_42 (dk_at dksJ5_append_3_1 9 rfl rfl)
theorem dJ5_append_3_34 : decode cJ5_append_3 34 = .ok (.dup, 1) := dk_89 (dk_at dksJ5_append_3_1 10 rfl rfl)
theorem dJ5_append_3_35 : decode cJ5_append_3 35 = .ok (.getfield 79, 3) := dk_180 0 79 (dk_at dksJ5_append_3_1 11 rfl rfl)
theorem dJ5_append_3_38 : decode cJ5_append_3 38 = .ok (.iload_n 2, 1) := dk_28 (dk_at dksJ5_append_3_1 14 rfl rfl)
theorem dJ5_append_3_39 : decode cJ5_append_3 39 = .ok (.iadd, 1) := dk_96 (dk_at dksJ5_append_3_1 15 rfl rfl)
theorem dJ5_append_3_40 : decode cJ5_append_3 40 = .ok (.putfield 79, 3) := dk_181 0 79 (dk_at dksJ5_append_3_1 16 rfl rfl)
theorem dJ5_append_3_43 : decode cJ5_append_3 43 = .ok (.aload_n 0, 1) := dk_42 (dk_at dksJ5_append_3_1 19 rfl rfl)
theorem dJ5_append_3_44 : decode cJ5_append_3 44 = .ok (.areturn, 1) := dk_176 (dk_at dksJ5_append_3_1 20 rfl rfl)
theorem q629 : (Jvm.Cond.code ({ cls := "java/lang/String", name := "length", desc := "()I" } : Jvm.MethodName) prog_46_method_54_code (1 : Nat) (Option.some Jvm.ClassFile.FieldType.int)) ∈ lw_all := lw_g (lw_at lw_m3 69 rfl) rfl
theorem zk_J7_length : zz_cd yJ7_length cJ7_length 1 (some .int) none ∈ lw_all := q629
theorem zy_J7_length : zz_yok yJ7_length 0 = true := by decide +kernel
theorem q638 : (Jvm.Cond.code ({ cls := "java/lang/AbstractStringBuilder", name := "putStringAt", desc := "(ILjava/lang/String;)V" } : Jvm.MethodName) prog_28_method_73_code (3 : Nat) (Option.none : Option Jvm.ClassFile.FieldType)) ∈ lw_all := lw_g (lw_at lw_m3 78 rfl) rfl
theorem zk_J5_putStringAt : zz_cd yJ5_putStringAt cJ5_putStringAt 3 none none ∈ lw_all := q638
theorem zy_J5_putStringAt : zz_yok yJ5_putStringAt 2 = true := by decide +kernel
theorem q635 : (Jvm.Cond.methodLink "java/lang/AbstractStringBuilder" (208 : Nat) ({ cls := "java/lang/AbstractStringBuilder", name := "putStringAt", desc := "(ILjava/lang/String;)V" } : Jvm.MethodName)) ∈ lw_all := lw_g (lw_at lw_m3 75 rfl) rfl
theorem q626 : (Jvm.Cond.methodLink "java/lang/AbstractStringBuilder" (32 : Nat) ({ cls := "java/lang/String", name := "length", desc := "()I" } : Jvm.MethodName)) ∈ lw_all := lw_g (lw_at lw_m3 66 rfl) rfl
theorem q627 : (Jvm.Cond.instanceMethod ({ cls := "java/lang/String", name := "length", desc := "()I" } : Jvm.MethodName)) ∈ lw_all := lw_g (lw_at lw_m3 67 rfl) rfl
theorem q628 : (Jvm.Cond.selects "java/lang/String" ({ cls := "java/lang/String", name := "length", desc := "()I" } : Jvm.MethodName) ({ cls := "java/lang/String", name := "length", desc := "()I" } : Jvm.MethodName)) ∈ lw_all := lw_g (lw_at lw_m3 68 rfl) rfl
def wp_J5_append_3 (Z : zzG) (this : Option Nat) (p0 : Option Nat) (M : zzM) (bc bs : Nat) (K : Option Value → zzM → Prop) : Prop := if p0 = none then (False) else (zty Z M p0 fun t => t = 21 ∧ wp_J7_length Z p0 M (fun r1 M2 => zrI r1 fun x5 => zgI Z M2 this [20] 3 fun x6 => zty Z M2 this fun t => t = 20 ∧ zcc bc bs (fun c s k => wp_J5_ensureCapacityInternal Z this (x6 + x5) M2 c s k) fun r7 M8 bc9 bs10 => zrV r7 (zgI Z M8 this [20] 3 fun x11 => zty Z M8 this fun t => t = 20 ∧ wp_J5_putStringAt Z this x11 p0 M8 (fun r12 M13 => zrV r12 (zgI Z M13 this [20] 3 fun x16 => zput Z M13 this [20] 3 (.int (x16 + x5)) fun M17 => K (some (va_rf this)) M17)))))
theorem ok_J5_append_3 {Z : zzG} {l : Launch} (hl : l.stackTraces = false) {this : Option Nat} {p0 : Option Nat} {M : zzM} {mc ms : Nat} {K : Option Value → zzM → Prop} (hw : wp_J5_append_3 Z this p0 M mc ms K) : zz_Met Z l yJ5_append_3 (zz_ws yJ5_append_3 cJ5_append_3 3 (some (.object "java/lang/AbstractStringBuilder")) none) 5 [va_rf this, va_rf p0] M mc ms K (fun _ _ _ => False) := by
  refine zz_ofW hl (plainFor_of_name (by decide)) (by simp only [zz_sl0, zz_slI, zz_slJ, zz_slA] <;> decide) (fun G hZ hll C E hH hR hin => ?_)
  subst hZ
  subst hll
  rw [show lv_args 0 [va_rf this, va_rf p0] = [(0, va_rf this), (1, va_rf p0)] by simp only [zz_la0, zz_laI, zz_laJ, zz_laA]]
  unfold wp_J5_append_3 at hw
  refine zz_aload_n C dJ5_append_3_0 rfl 1 rfl ?_
  refine zz_ifnonnull (tgt := 9) C dJ5_append_3_1 (by decide) hw (fun hw => ?_) (fun hw => ?_)
  · refine zz_aload_n C dJ5_append_3_9 rfl 1 rfl ?_
    obtain ⟨a9, t9, b9, fs9, hro, hL, rfl, hw⟩ := ztyS hw
    refine zz_callV (r := (zR_21, zT_21, 4)) (As := []) (rest := []) (mc := 0) (ms := 0) C hR hro dJ5_append_3_10 (Or.inl q626) q627 (Or.inl q628) zl_java_lang_String zk_J7_length (Or.inl rfl) zy_J7_length rfl (by decide) (by decide) hL (ok_J7_length (zz_hl C) hw) (Nat.zero_le _) (Nat.zero_le _) (zz_cat10 _ (Nat.le_of_ble_eq_true rfl)) (fun r1 M2 hw => zz_kI hw (fun x5 hw => ?_)) (fun _ _ _ h9 => h9.elim) rfl
    refine zz_istore_n (i := 2) (lv' := [(2, .int x5), (0, va_rf this), (1, va_rf p0)]) C dJ5_append_3_13 rfl (by decide) (by simp [zz_cat, zz_catI, zz_catJ, zz_catD]) ?_
    refine zz_aload_n C dJ5_append_3_14 rfl 1 rfl ?_
    refine zz_aload_n C dJ5_append_3_15 rfl 1 rfl ?_
    refine zz_getI C dJ5_append_3_16 (Or.inl q293) zf_20_3_tStringBuilder hw (fun x6 hw => ?_)
    refine zz_iload_n C dJ5_append_3_19 rfl 0 rfl ?_
    refine zz_iadd C dJ5_append_3_20 ?_
    obtain ⟨a9, t9, b9, fs9, hro, hL, rfl, hw⟩ := ztyS hw
    obtain ⟨c9, s9, hc9, hs9, hw⟩ := hw
    refine zz_callV (r := (zR_20, zT_20, 4)) (As := [.int (x6 + x5)]) (rest := []) C hR hro dJ5_append_3_21 (Or.inl q407) q409 (Or.inr (by decide +kernel)) zl_java_lang_AbstractStringBuilder zk_J5_ensureCapacityInternal (Or.inl rfl) zy_J5_ensureCapacityInternal rfl (by decide) (by decide) hL (ok_J5_ensureCapacityInternal (zz_hl C) hw) hc9 hs9 (zz_cat10 _ (Nat.le_of_ble_eq_true rfl)) (fun r7 M8 hw => zz_kV hw (fun hw => ?_)) (fun _ _ _ h9 => h9.elim) rfl
    refine zz_aload_n C dJ5_append_3_24 rfl 1 rfl ?_
    refine zz_aload_n C dJ5_append_3_25 rfl 1 rfl ?_
    refine zz_getI C dJ5_append_3_26 (Or.inl q293) zf_20_3_tStringBuilder hw (fun x11 hw => ?_)
    refine zz_aload_n C dJ5_append_3_29 rfl 2 rfl ?_
    obtain ⟨a9, t9, b9, fs9, hro, hL, rfl, hw⟩ := ztyS hw
    refine zz_callV (r := (zR_20, zT_20, 4)) (As := [.int x11, va_rf p0]) (rest := []) (mc := 0) (ms := 0) C hR hro dJ5_append_3_30 (Or.inl q635) q637 (Or.inr (by decide +kernel)) zl_java_lang_AbstractStringBuilder zk_J5_putStringAt (Or.inl rfl) zy_J5_putStringAt rfl (by decide) (by decide) hL (ok_J5_putStringAt (zz_hl C) hw) (Nat.zero_le _) (Nat.zero_le _) (zz_cat10 _ (Nat.le_of_ble_eq_true rfl)) (fun r12 M13 hw => zz_kV hw (fun hw => ?_)) (fun _ _ _ h9 => h9.elim) rfl
    refine zz_aload_n C dJ5_append_3_33 rfl 1 rfl ?_
    refine zz_dup C dJ5_append_3_34 (zz_cat _) ?_
    refine zz_getI C dJ5_append_3_35 (Or.inl q293) zf_20_3_tStringBuilder hw (fun x16 hw => ?_)
    refine zz_iload_n C dJ5_append_3_38 rfl 0 rfl ?_
    refine zz_iadd C dJ5_append_3_39 ?_
    refine zz_put C dJ5_append_3_40 (Or.inl q293) zf_20_3_tStringBuilder zp_20_3 (zz_hn1 ⟨rfl, rfl⟩) hw (fun M17 hw => ?_)
    refine zz_aload_n C dJ5_append_3_43 rfl 1 rfl ?_
    exact zz_aret C E (Or.inl ⟨_, rfl⟩) dJ5_append_3_44 hw
  · refine zz_aload_n C dJ5_append_3_4 rfl 0 rfl ?_
    exact hw.elim
abbrev cJ6_append_3 : ByteArray := prog_47_method_7_code
def yJ6_append_3 : MethodName := ⟨"java/lang/StringBuilder", "append", "(Ljava/lang/String;)Ljava/lang/StringBuilder;"⟩
def dkwJ6_append_3_0 : List UInt8 := [42, 43, 183, 0, 29, 87, 42, 176]
abbrev dktJ6_append_3_0 : List UInt8 := dkwJ6_append_3_0 ++ []
theorem dksJ6_append_3_0 : cJ6_append_3.data.toList.drop 0 = dktJ6_append_3_0 := by decide +kernel
theorem dJ6_append_3_0 : decode cJ6_append_3 0 = .ok (.aload_n 0, 1) := dk_42 (dk_at dksJ6_append_3_0 0 rfl rfl)
theorem dJ6_append_3_1 : decode cJ6_append_3 1 = .ok (.aload_n 1, 1) := dk_43 (dk_at dksJ6_append_3_0 1 rfl rfl)
theorem dJ6_append_3_2 : decode cJ6_append_3 2 = .ok (.invokespecial 29, 3) := dk_183 0 29 (dk_at dksJ6_append_3_0 2 rfl rfl)
theorem dJ6_append_3_5 : decode cJ6_append_3 5 = .ok (.pop, 1) := dk_87 (dk_at dksJ6_append_3_0 5 rfl rfl)
theorem dJ6_append_3_6 : decode cJ6_append_3 6 = .ok (.aload_n 0, 1) := dk_42 (dk_at dksJ6_append_3_0 6 rfl rfl)
theorem dJ6_append_3_7 : decode cJ6_append_3 7 = .ok (.areturn, 1) := dk_176 (dk_at dksJ6_append_3_0 7 rfl rfl)
theorem q618 : (Jvm.Cond.code ({ cls := "java/lang/AbstractStringBuilder", name := "append", desc := "(Ljava/lang/String;)Ljava/lang/AbstractStringBuilder;" } : Jvm.MethodName) prog_28_method_22_code (3 : Nat) (Option.some (Jvm.ClassFile.FieldType.object "java/lang/AbstractStringBuilder"))) ∈ lw_all := lw_g (lw_at lw_m3 58 rfl) rfl
theorem zk_J5_append_3 : zz_cd yJ5_append_3 cJ5_append_3 3 (some (.object "java/lang/AbstractStringBuilder")) none ∈ lw_all := q618
theorem zy_J5_append_3 : zz_yok yJ5_append_3 1 = true := by decide +kernel
theorem q616 : (Jvm.Cond.methodLink "java/lang/StringBuilder" (29 : Nat) ({ cls := "java/lang/AbstractStringBuilder", name := "append", desc := "(Ljava/lang/String;)Ljava/lang/AbstractStringBuilder;" } : Jvm.MethodName)) ∈ lw_all := lw_g (lw_at lw_m3 56 rfl) rfl
theorem q2867 : (Jvm.Cond.sameMethod "java/lang/AbstractStringBuilder" "java/lang/AbstractStringBuilder" "append" "(Ljava/lang/String;)Ljava/lang/AbstractStringBuilder;") ∈ lw_all := lw_g (lw_at lw_m12 147 rfl) rfl
theorem q617 : (Jvm.Cond.instanceMethod ({ cls := "java/lang/AbstractStringBuilder", name := "append", desc := "(Ljava/lang/String;)Ljava/lang/AbstractStringBuilder;" } : Jvm.MethodName)) ∈ lw_all := lw_g (lw_at lw_m3 57 rfl) rfl
def wp_J6_append_3 (Z : zzG) (this : Option Nat) (p0 : Option Nat) (M : zzM) (bc bs : Nat) (K : Option Value → zzM → Prop) : Prop := zty Z M this fun t => t = 20 ∧ zcc bc bs (fun c s k => wp_J5_append_3 Z this p0 M c s k) fun r1 M2 bc3 bs4 => zrA r1 fun x5 => K (some (va_rf this)) M2
theorem ok_J6_append_3 {Z : zzG} {l : Launch} (hl : l.stackTraces = false) {this : Option Nat} {p0 : Option Nat} {M : zzM} {mc ms : Nat} {K : Option Value → zzM → Prop} (hw : wp_J6_append_3 Z this p0 M mc ms K) : zz_Met Z l yJ6_append_3 (zz_ws yJ6_append_3 cJ6_append_3 2 (some (.object "java/lang/StringBuilder")) none) 6 [va_rf this, va_rf p0] M mc ms K (fun _ _ _ => False) := by
  refine zz_ofW hl (plainFor_of_name (by decide)) (by simp only [zz_sl0, zz_slI, zz_slJ, zz_slA] <;> decide) (fun G hZ hll C E hH hR hin => ?_)
  subst hZ
  subst hll
  rw [show lv_args 0 [va_rf this, va_rf p0] = [(0, va_rf this), (1, va_rf p0)] by simp only [zz_la0, zz_laI, zz_laJ, zz_laA]]
  unfold wp_J6_append_3 at hw
  refine zz_aload_n C dJ6_append_3_0 rfl 0 rfl ?_
  refine zz_aload_n C dJ6_append_3_1 rfl 1 rfl ?_
  obtain ⟨a9, t9, b9, fs9, hro, hL, rfl, hw⟩ := ztyS hw
  obtain ⟨c9, s9, hc9, hs9, hw⟩ := hw
  refine zz_callSU (r := (zR_20, zT_20, 4)) (As := [va_rf p0]) (rest := []) C hR hro dJ6_append_3_2 q616 q2867 q302 q617 zl_java_lang_AbstractStringBuilder zk_J5_append_3 (by decide) zy_J5_append_3 rfl (by decide) (by decide) hL (ok_J5_append_3 (zz_hl C) hw) hc9 hs9 (zz_cat10 _ (Nat.le_of_ble_eq_true rfl)) (fun r1 M2 hw => zz_kA hw (fun x5 hw => ?_)) (fun _ _ _ h9 => h9.elim) rfl
  refine zz_pop C dJ6_append_3_5 (zz_cat _) ?_
  refine zz_aload_n C dJ6_append_3_6 rfl 0 rfl ?_
  exact zz_aret C E (Or.inl ⟨_, rfl⟩) dJ6_append_3_7 hw
abbrev cJ18_canEncode : ByteArray := prog_49_method_3_code
def yJ18_canEncode : MethodName := ⟨"java/lang/StringLatin1", "canEncode", "(C)Z"⟩
def dkwJ18_canEncode_0 : List UInt8 := [26, 17, 0, 255, 163, 0, 7, 4, 167, 0, 4, 3, 172]
abbrev dktJ18_canEncode_0 : List UInt8 := dkwJ18_canEncode_0 ++ []
theorem dksJ18_canEncode_0 : cJ18_canEncode.data.toList.drop 0 = dktJ18_canEncode_0 := by decide +kernel
theorem dJ18_canEncode_0 : decode cJ18_canEncode 0 = .ok (.iload_n 0, 1) := dk_26 (dk_at dksJ18_canEncode_0 0 rfl rfl)
theorem dJ18_canEncode_1 : decode cJ18_canEncode 1 = .ok (.sipush 255, 3) := dk_17 0 255 (dk_at dksJ18_canEncode_0 1 rfl rfl)
theorem dJ18_canEncode_4 : decode cJ18_canEncode 4 = .ok (.if_icmp .gt 7, 3) := dk_163 0 7 (dk_at dksJ18_canEncode_0 4 rfl rfl)
theorem dJ18_canEncode_7 : decode cJ18_canEncode 7 = .ok (.iconst 1, 1) := dk_4 (dk_at dksJ18_canEncode_0 7 rfl rfl)
theorem dJ18_canEncode_8 : decode cJ18_canEncode 8 = .ok (.goto 4, 3) := dk_167 0 4 (dk_at dksJ18_canEncode_0 8 rfl rfl)
theorem dJ18_canEncode_11 : decode cJ18_canEncode 11 = .ok (.iconst 0, 1) := dk_3 (dk_at dksJ18_canEncode_0 11 rfl rfl)
theorem dJ18_canEncode_12 : decode cJ18_canEncode 12 = .ok (.ireturn, 1) := dk_172 (dk_at dksJ18_canEncode_0 12 rfl rfl)
def wp_J18_canEncode_B12 (Z : zzG) (K : Option Value → zzM → Prop) (s0 : Int32) (M : zzM) : Prop := narrow .boolean (.int s0) = .int s0 ∧ K (some (.int s0)) M
def wp_J18_canEncode (Z : zzG) (p0 : Int32) (M : zzM) (K : Option Value → zzM → Prop) : Prop := if (255 : Int32) < p0 then (wp_J18_canEncode_B12 Z K (0 : Int32) M) else (wp_J18_canEncode_B12 Z K (1 : Int32) M)
theorem ok_J18_canEncode_B12 {G : zzX} (C : zz_C G cJ18_canEncode "java/lang/StringLatin1" 1) {K : Option Value → zzM → Prop} (E : zz_E G (some .boolean) K (fun _ _ _ => False)) (hH : zz_H G []) (hR : zz_Rm G 1) {s0 : Int32} {M : zzM} {bc bs : Nat} (hw : wp_J18_canEncode_B12 (zz_Zof G) K s0 M) : zz_T G 1 M bc bs 12 [] [.int s0] := by
  unfold wp_J18_canEncode_B12 at hw
  exact zz_zret C E dJ18_canEncode_12 hw
theorem ok_J18_canEncode {Z : zzG} {l : Launch} (hl : l.stackTraces = false) {p0 : Int32} {M : zzM} {mc ms : Nat} {K : Option Value → zzM → Prop} (hw : wp_J18_canEncode Z p0 M K) : zz_Met Z l yJ18_canEncode (zz_ws yJ18_canEncode cJ18_canEncode 1 (some .boolean) none) 1 [.int p0] M mc ms K (fun _ _ _ => False) := by
  refine zz_ofW hl (plainFor_of_name (by decide)) (by simp only [zz_sl0, zz_slI, zz_slJ, zz_slA] <;> decide) (fun G hZ hll C E hH hR hin => ?_)
  subst hZ
  subst hll
  rw [show lv_args 0 [.int p0] = [(0, .int p0)] by simp only [zz_la0, zz_laI, zz_laJ, zz_laA]]
  unfold wp_J18_canEncode at hw
  refine zz_iload_n C dJ18_canEncode_0 rfl 0 rfl ?_
  refine zz_sipush (v := (255 : Int32)) C dJ18_canEncode_1 (by decide) ?_
  refine zz_icmp_gt (tgt := 11) C dJ18_canEncode_4 (by decide) hw (fun hw => ?_) (fun hw => ?_)
  · refine zz_iconst (v := (0 : Int32)) C dJ18_canEncode_11 (by decide) ?_
    refine zz_subP [] rfl ?_
    exact ok_J18_canEncode_B12 C E hH hR hw
  · refine zz_iconst (v := (1 : Int32)) C dJ18_canEncode_7 (by decide) ?_
    refine zz_goto (tgt := 12) C dJ18_canEncode_8 (by decide) ?_
    refine zz_subP [] rfl ?_
    exact ok_J18_canEncode_B12 C E hH hR hw
abbrev cJ5_append : ByteArray := prog_28_method_31_code
def yJ5_append : MethodName := ⟨"java/lang/AbstractStringBuilder", "append", "(C)Ljava/lang/AbstractStringBuilder;"⟩
def dkwJ5_append_3 : List UInt8 := [181, 0, 79, 27, 184, 0, 197, 42, 176]
abbrev dktJ5_append_3 : List UInt8 := dkwJ5_append_3 ++ []
def dkwJ5_append_2 : List UInt8 := [182, 0, 83, 153, 0, 7, 42, 182, 0, 195, 42, 180, 0, 15, 42, 89, 180, 0, 79, 90, 4, 96]
abbrev dktJ5_append_2 : List UInt8 := dkwJ5_append_2 ++ dktJ5_append_3
def dkwJ5_append_1 : List UInt8 := [42, 180, 0, 15, 42, 89, 180, 0, 79, 90, 4, 96, 181, 0, 79, 27, 145, 84, 167, 0, 33, 42]
abbrev dktJ5_append_1 : List UInt8 := dkwJ5_append_1 ++ dktJ5_append_2
def dkwJ5_append_0 : List UInt8 := [42, 42, 180, 0, 79, 4, 96, 182, 0, 100, 42, 182, 0, 83, 153, 0, 31, 27, 184, 0, 191, 153, 0, 24]
abbrev dktJ5_append_0 : List UInt8 := dkwJ5_append_0 ++ dktJ5_append_1
theorem dksJ5_append_0 : cJ5_append.data.toList.drop 0 = dktJ5_append_0 := by decide +kernel
theorem dksJ5_append_1 : cJ5_append.data.toList.drop 24 = dktJ5_append_1 := dk_seg dksJ5_append_0 24 rfl rfl
theorem dksJ5_append_2 : cJ5_append.data.toList.drop 46 = dktJ5_append_2 := dk_seg dksJ5_append_1 22 rfl rfl
theorem dksJ5_append_3 : cJ5_append.data.toList.drop 68 = dktJ5_append_3 := dk_seg dksJ5_append_2 22 rfl rfl
theorem dJ5_append_0 : decode cJ5_append 0 = .ok (.aload_n 0, 1) := dk_42 (dk_at dksJ5_append_0 0 rfl rfl)
theorem dJ5_append_1 : decode cJ5_append 1 = .ok (.aload_n 0, 1) := dk_42 (dk_at dksJ5_append_0 1 rfl rfl)
theorem dJ5_append_2 : decode cJ5_append 2 = .ok (.getfield 79, 3) := dk_180 0 79 (dk_at dksJ5_append_0 2 rfl rfl)
theorem dJ5_append_5 : decode cJ5_append 5 = .ok (.iconst 1, 1) := dk_4 (dk_at dksJ5_append_0 5 rfl rfl)
theorem dJ5_append_6 : decode cJ5_append 6 = .ok (.iadd, 1) := dk_96 (dk_at dksJ5_append_0 6 rfl rfl)
theorem dJ5_append_7 : decode cJ5_append 7 = .ok (.invokevirtual 100, 3) := dk_182 0 100 (dk_at dksJ5_append_0 7 rfl rfl)
theorem dJ5_append_10 : decode cJ5_append 10 = .ok (.aload_n 0, 1) := dk_42 (dk_at dksJ5_append_0 10 rfl rfl)
theorem dJ5_append_11 : decode cJ5_append 11 = .ok (.invokevirtual 83, 3) := dk_182 0 83 (dk_at dksJ5_append_0 11 rfl rfl)
theorem dJ5_append_14 : decode cJ5_append 14 = .ok (.ifCond .eq 31, 3) := dk_153 0 31 (dk_at dksJ5_append_0 14 rfl rfl)
theorem dJ5_append_17 : decode cJ5_append 17 = .ok (.iload_n 1, 1) := dk_27 (dk_at dksJ5_append_0 17 rfl rfl)
theorem dJ5_append_18 : decode cJ5_append 18 = .ok (.invokestatic 191, 3) := dk_184 0 191 (dk_at dksJ5_append_0 18 rfl rfl)
theorem dJ5_append_21 : decode cJ5_append 21 = .ok (.ifCond .eq 24, 3) := dk_153 0 24 (dk_at dksJ5_append_0 21 rfl rfl)
theorem dJ5_append_24 : decode cJ5_append 24 = .ok (.aload_n 0, 1) := dk_42 (dk_at dksJ5_append_1 0 rfl rfl)
theorem dJ5_append_25 : decode cJ5_append 25 = .ok (.getfield 15, 3) := dk_180 0 15 (dk_at dksJ5_append_1 1 rfl rfl)
theorem dJ5_append_28 : decode cJ5_append 28 = .ok (.aload_n 0, 1) := dk_42 (dk_at dksJ5_append_1 4 rfl rfl)
theorem dJ5_append_29 : decode cJ5_append 29 = .ok (.dup, 1) := dk_89 (dk_at dksJ5_append_1 5 rfl rfl)
theorem dJ5_append_30 : decode cJ5_append 30 = .ok (.getfield 79, 3) := dk_180 0 79 (dk_at dksJ5_append_1 6 rfl rfl)
theorem dJ5_append_33 : decode cJ5_append 33 = .ok (.dup_x1, 1) := dk_90 (dk_at dksJ5_append_1 9 rfl rfl)
theorem dJ5_append_34 : decode cJ5_append 34 = .ok (.iconst 1, 1) := dk_4 (dk_at dksJ5_append_1 10 rfl rfl)
theorem dJ5_append_35 : decode cJ5_append 35 = .ok (.iadd, 1) := dk_96 (dk_at dksJ5_append_1 11 rfl rfl)
theorem dJ5_append_36 : decode cJ5_append 36 = .ok (.putfield 79, 3) := dk_181 0 79 (dk_at dksJ5_append_1 12 rfl rfl)
theorem dJ5_append_39 : decode cJ5_append 39 = .ok (.iload_n 1, 1) := dk_27 (dk_at dksJ5_append_1 15 rfl rfl)
theorem dJ5_append_40 : decode cJ5_append 40 = .ok (.i2b, 1) := dk_145 (dk_at dksJ5_append_1 16 rfl rfl)
theorem dJ5_append_41 : decode cJ5_append 41 = .ok (.bastore, 1) := dk_84 (dk_at dksJ5_append_1 17 rfl rfl)
theorem dJ5_append_42 : decode cJ5_append 42 = .ok (.goto 33, 3) := dk_167 0 33 (dk_at dksJ5_append_1 18 rfl rfl)
theorem dJ5_append_45 : decode cJ5_append 45 = .ok (.aload_n 0, 1) := dk_42 (dk_at dksJ5_append_1 21 rfl rfl)
theorem dJ5_append_46 : decode cJ5_append 46 = .ok (.invokevirtual 83, 3) := dk_182 0 83 (dk_at dksJ5_append_2 0 rfl rfl)
theorem dJ5_append_49 : decode cJ5_append 49 = .ok (.ifCond .eq 7, 3) := dk_153 0 7 (dk_at dksJ5_append_2 3 rfl rfl)
theorem dJ5_append_52 : decode cJ5_append 52 = .ok (.aload_n 0, 1) := dk_42 (dk_at dksJ5_append_2 6 rfl rfl)
theorem dJ5_append_53 : decode cJ5_append 53 = .ok (.invokevirtual 195, 3) := dk_182 0 195 (dk_at dksJ5_append_2 7 rfl rfl)
theorem dJ5_append_56 : decode cJ5_append 56 = .ok (.aload_n 0, 1) := dk_42 (dk_at dksJ5_append_2 10 rfl rfl)
theorem dJ5_append_57 : decode cJ5_append 57 = .ok (.getfield 15, 3) := dk_180 0 15 (dk_at dksJ5_append_2 11 rfl rfl)
theorem dJ5_append_60 : decode cJ5_append 60 = .ok (.aload_n 0, 1) := dk_42 (dk_at dksJ5_append_2 14 rfl rfl)
theorem dJ5_append_61 : decode cJ5_append 61 = .ok (.dup, 1) := dk_89 (dk_at dksJ5_append_2 15 rfl rfl)
theorem dJ5_append_62 : decode cJ5_append 62 = .ok (.getfield 79, 3) := dk_180 0 79 (dk_at dksJ5_append_2 16 rfl rfl)
theorem dJ5_append_65 : decode cJ5_append 65 = .ok (.dup_x1, 1) := dk_90 (dk_at dksJ5_append_2 19 rfl rfl)
theorem dJ5_append_66 : decode cJ5_append 66 = .ok (.iconst 1, 1) := dk_4 (dk_at dksJ5_append_2 20 rfl rfl)
theorem dJ5_append_67 : decode cJ5_append 67 = .ok (.iadd, 1) := dk_96 (dk_at dksJ5_append_2 21 rfl rfl)
theorem dJ5_append_68 : decode cJ5_append 68 = .ok (.putfield 79, 3) := dk_181 0 79 (dk_at dksJ5_append_3 0 rfl rfl)
theorem dJ5_append_71 : decode cJ5_append 71 = .ok (.iload_n 1, 1) := dk_27 (dk_at dksJ5_append_3 3 rfl rfl)
theorem dJ5_append_72 : decode cJ5_append 72 = .ok (.invokestatic 197, 3) := dk_184 0 197 (dk_at dksJ5_append_3 4 rfl rfl)
theorem dJ5_append_75 : decode cJ5_append 75 = .ok (.aload_n 0, 1) := dk_42 (dk_at dksJ5_append_3 7 rfl rfl)
theorem dJ5_append_76 : decode cJ5_append 76 = .ok (.areturn, 1) := dk_176 (dk_at dksJ5_append_3 8 rfl rfl)
theorem q449 : (Jvm.Cond.code ({ cls := "java/lang/StringLatin1", name := "canEncode", desc := "(C)Z" } : Jvm.MethodName) prog_49_method_3_code (1 : Nat) (Option.some Jvm.ClassFile.FieldType.boolean)) ∈ lw_all := lw_g (lw_at lw_m2 129 rfl) rfl
theorem zk_J18_canEncode : zz_cd yJ18_canEncode cJ18_canEncode 1 (some .boolean) none ∈ lw_all := q449
theorem zy_J18_canEncode : zz_yok yJ18_canEncode 1 = true := by decide +kernel
theorem q447 : (Jvm.Cond.methodLink "java/lang/AbstractStringBuilder" (191 : Nat) ({ cls := "java/lang/StringLatin1", name := "canEncode", desc := "(C)Z" } : Jvm.MethodName)) ∈ lw_all := lw_g (lw_at lw_m2 127 rfl) rfl
theorem q109 : (Jvm.Cond.initialized "java/lang/StringLatin1") ∈ lw_all := lw_g (lw_at lw_m1 29 rfl) rfl
theorem zl_java_lang_StringLatin1 : Cond.initialized "java/lang/StringLatin1" ∈ lw_all := q109
theorem q448 : (Jvm.Cond.static ({ cls := "java/lang/StringLatin1", name := "canEncode", desc := "(C)Z" } : Jvm.MethodName)) ∈ lw_all := lw_g (lw_at lw_m2 128 rfl) rfl
def wp_J5_append_B45 (Z : zzG) (K : Option Value → zzM → Prop) (v0 : Option Nat) (v1 : Int32) (M : zzM) (bc bs : Nat) : Prop := zty Z M v0 fun t => t = 20 ∧ wp_J5_isLatin1 Z v0 M (fun r20 M21 => zrI r20 fun x24 => if x24 = 0 then (zgA Z M21 v0 [20] 0 fun x25 => zgI Z M21 v0 [20] 3 fun x26 => zput Z M21 v0 [20] 3 (.int (x26 + (1 : Int32))) fun M27 => False) else (False))
def wp_J5_append (Z : zzG) (this : Option Nat) (p0 : Int32) (M : zzM) (bc bs : Nat) (K : Option Value → zzM → Prop) : Prop := zgI Z M this [20] 3 fun x1 => zty Z M this fun t => t = 20 ∧ zcc bc bs (fun c s k => wp_J5_ensureCapacityInternal Z this (x1 + (1 : Int32)) M c s k) fun r2 M3 bc4 bs5 => zrV r2 (zty Z M3 this fun t => t = 20 ∧ wp_J5_isLatin1 Z this M3 (fun r6 M7 => zrI r6 fun x10 => if x10 = 0 then (wp_J5_append_B45 Z K this p0 M7 bc4 bs5) else (wp_J18_canEncode Z p0 M7 (fun r11 M12 => zrI r11 fun x15 => if x15 = 0 then (wp_J5_append_B45 Z K this p0 M12 bc4 bs5) else (zgA Z M12 this [20] 0 fun x16 => zgI Z M12 this [20] 3 fun x17 => zput Z M12 this [20] 3 (.int (x17 + (1 : Int32))) fun M18 => zast Z M18 x16 [101] x17 (.int p0.toInt8.toInt32.toInt8.toInt32) fun M19 => K (some (va_rf this)) M19)))))
theorem ok_J5_append_B45 {G : zzX} (C : zz_C G cJ5_append "java/lang/AbstractStringBuilder" 2) {K : Option Value → zzM → Prop} (E : zz_E G (some (.object "java/lang/AbstractStringBuilder")) K (fun _ _ _ => False)) (hH : zz_H G []) (hR : zz_Rm G 5) {v0 : Option Nat} {v1 : Int32} {M : zzM} {bc bs : Nat} (hw : wp_J5_append_B45 (zz_Zof G) K v0 v1 M bc bs) : zz_T G 2 M bc bs 45 [(0, va_rf v0), (1, .int v1)] [] := by
  unfold wp_J5_append_B45 at hw
  refine zz_aload_n C dJ5_append_45 rfl 0 rfl ?_
  obtain ⟨a9, t9, b9, fs9, hro, hL, rfl, hw⟩ := ztyS hw
  refine zz_callV (r := (zR_20, zT_20, 4)) (As := []) (rest := []) (mc := 0) (ms := 0) C hR hro dJ5_append_46 (Or.inl q442) q443 (Or.inl q445) zl_java_lang_AbstractStringBuilder zk_J5_isLatin1 (Or.inl rfl) zy_J5_isLatin1 rfl (by decide) (by decide) hL (ok_J5_isLatin1 (zz_hl C) hw) (Nat.zero_le _) (Nat.zero_le _) (zz_cat10 _ (Nat.le_of_ble_eq_true rfl)) (fun r20 M21 hw => zz_kI hw (fun x24 hw => ?_)) (fun _ _ _ h9 => h9.elim) rfl
  refine zz_if_eq (tgt := 56) C dJ5_append_49 (by decide) hw (fun hw => ?_) (fun hw => ?_)
  · refine zz_aload_n C dJ5_append_56 rfl 0 rfl ?_
    refine zz_getA C dJ5_append_57 (Or.inl q289) zf_20_0_tStringBuilder hw (fun x25 hw => ?_)
    refine zz_aload_n C dJ5_append_60 rfl 0 rfl ?_
    refine zz_dup C dJ5_append_61 (zz_cat _) ?_
    refine zz_getI C dJ5_append_62 (Or.inl q293) zf_20_3_tStringBuilder hw (fun x26 hw => ?_)
    refine zz_dup_x1 C dJ5_append_65 rfl (zz_cat _) ?_
    refine zz_iconst (v := (1 : Int32)) C dJ5_append_66 (by decide) ?_
    refine zz_iadd C dJ5_append_67 ?_
    refine zz_put C dJ5_append_68 (Or.inl q293) zf_20_3_tStringBuilder zp_20_3 (zz_hn1 ⟨rfl, rfl⟩) hw (fun M27 hw => ?_)
    refine zz_iload_n C dJ5_append_71 rfl 1 rfl ?_
    exact hw.elim
  · refine zz_aload_n C dJ5_append_52 rfl 0 rfl ?_
    exact hw.elim
theorem ok_J5_append {Z : zzG} {l : Launch} (hl : l.stackTraces = false) {this : Option Nat} {p0 : Int32} {M : zzM} {mc ms : Nat} {K : Option Value → zzM → Prop} (hw : wp_J5_append Z this p0 M mc ms K) : zz_Met Z l yJ5_append (zz_ws yJ5_append cJ5_append 2 (some (.object "java/lang/AbstractStringBuilder")) none) 5 [va_rf this, .int p0] M mc ms K (fun _ _ _ => False) := by
  refine zz_ofW hl (plainFor_of_name (by decide)) (by simp only [zz_sl0, zz_slI, zz_slJ, zz_slA] <;> decide) (fun G hZ hll C E hH hR hin => ?_)
  subst hZ
  subst hll
  rw [show lv_args 0 [va_rf this, .int p0] = [(0, va_rf this), (1, .int p0)] by simp only [zz_la0, zz_laI, zz_laJ, zz_laA]]
  unfold wp_J5_append at hw
  refine zz_aload_n C dJ5_append_0 rfl 0 rfl ?_
  refine zz_aload_n C dJ5_append_1 rfl 0 rfl ?_
  refine zz_getI C dJ5_append_2 (Or.inl q293) zf_20_3_tStringBuilder hw (fun x1 hw => ?_)
  refine zz_iconst (v := (1 : Int32)) C dJ5_append_5 (by decide) ?_
  refine zz_iadd C dJ5_append_6 ?_
  obtain ⟨a9, t9, b9, fs9, hro, hL, rfl, hw⟩ := ztyS hw
  obtain ⟨c9, s9, hc9, hs9, hw⟩ := hw
  refine zz_callV (r := (zR_20, zT_20, 4)) (As := [.int (x1 + (1 : Int32))]) (rest := []) C hR hro dJ5_append_7 (Or.inl q407) q409 (Or.inr (by decide +kernel)) zl_java_lang_AbstractStringBuilder zk_J5_ensureCapacityInternal (Or.inl rfl) zy_J5_ensureCapacityInternal rfl (by decide) (by decide) hL (ok_J5_ensureCapacityInternal (zz_hl C) hw) hc9 hs9 (zz_cat10 _ (Nat.le_of_ble_eq_true rfl)) (fun r2 M3 hw => zz_kV hw (fun hw => ?_)) (fun _ _ _ h9 => h9.elim) rfl
  refine zz_aload_n C dJ5_append_10 rfl 0 rfl ?_
  obtain ⟨a9, t9, b9, fs9, hro, hL, rfl, hw⟩ := ztyS hw
  refine zz_callV (r := (zR_20, zT_20, 4)) (As := []) (rest := []) (mc := 0) (ms := 0) C hR hro dJ5_append_11 (Or.inl q442) q443 (Or.inl q445) zl_java_lang_AbstractStringBuilder zk_J5_isLatin1 (Or.inl rfl) zy_J5_isLatin1 rfl (by decide) (by decide) hL (ok_J5_isLatin1 (zz_hl C) hw) (Nat.zero_le _) (Nat.zero_le _) (zz_cat10 _ (Nat.le_of_ble_eq_true rfl)) (fun r6 M7 hw => zz_kI hw (fun x10 hw => ?_)) (fun _ _ _ h9 => h9.elim) rfl
  refine zz_if_eq (tgt := 45) C dJ5_append_14 (by decide) hw (fun hw => ?_) (fun hw => ?_)
  · refine zz_subP [0, 1] rfl ?_
    exact ok_J5_append_B45 C E hH hR hw
  · refine zz_iload_n C dJ5_append_17 rfl 1 rfl ?_
    refine zz_callS (As := [.int p0]) (rest := []) (mc := 0) (ms := 0) C hR dJ5_append_18 (Or.inl q447) q448 zl_java_lang_StringLatin1 zk_J18_canEncode (Or.inl rfl) zy_J18_canEncode (by decide) (by decide) (ok_J18_canEncode (zz_hl C) hw) (Nat.zero_le _) (Nat.zero_le _) (zz_cat10 _ (Nat.le_of_ble_eq_true rfl)) (fun r11 M12 hw => zz_kI hw (fun x15 hw => ?_)) (fun _ _ _ h9 => h9.elim) rfl
    refine zz_if_eq (tgt := 45) C dJ5_append_21 (by decide) hw (fun hw => ?_) (fun hw => ?_)
    · refine zz_subP [0, 1] rfl ?_
      exact ok_J5_append_B45 C E hH hR hw
    · refine zz_aload_n C dJ5_append_24 rfl 0 rfl ?_
      refine zz_getA C dJ5_append_25 (Or.inl q289) zf_20_0_tStringBuilder hw (fun x16 hw => ?_)
      refine zz_aload_n C dJ5_append_28 rfl 0 rfl ?_
      refine zz_dup C dJ5_append_29 (zz_cat _) ?_
      refine zz_getI C dJ5_append_30 (Or.inl q293) zf_20_3_tStringBuilder hw (fun x17 hw => ?_)
      refine zz_dup_x1 C dJ5_append_33 rfl (zz_cat _) ?_
      refine zz_iconst (v := (1 : Int32)) C dJ5_append_34 (by decide) ?_
      refine zz_iadd C dJ5_append_35 ?_
      refine zz_put C dJ5_append_36 (Or.inl q293) zf_20_3_tStringBuilder zp_20_3 (zz_hn1 ⟨rfl, rfl⟩) hw (fun M18 hw => ?_)
      refine zz_iload_n C dJ5_append_39 rfl 1 rfl ?_
      refine zz_i2b C dJ5_append_40 ?_
      refine zz_bast C dJ5_append_41 hw (fun M19 hw => ?_)
      refine zz_goto (tgt := 75) C dJ5_append_42 (by decide) ?_
      refine zz_aload_n C dJ5_append_75 rfl 0 rfl ?_
      exact zz_aret C E (Or.inl ⟨_, rfl⟩) dJ5_append_76 hw
abbrev cJ6_append : ByteArray := prog_47_method_14_code
def yJ6_append : MethodName := ⟨"java/lang/StringBuilder", "append", "(C)Ljava/lang/StringBuilder;"⟩
def dkwJ6_append_0 : List UInt8 := [42, 27, 183, 0, 50, 87, 42, 176]
abbrev dktJ6_append_0 : List UInt8 := dkwJ6_append_0 ++ []
theorem dksJ6_append_0 : cJ6_append.data.toList.drop 0 = dktJ6_append_0 := by decide +kernel
theorem dJ6_append_0 : decode cJ6_append 0 = .ok (.aload_n 0, 1) := dk_42 (dk_at dksJ6_append_0 0 rfl rfl)
theorem dJ6_append_1 : decode cJ6_append 1 = .ok (.iload_n 1, 1) := dk_27 (dk_at dksJ6_append_0 1 rfl rfl)
theorem dJ6_append_2 : decode cJ6_append 2 = .ok (.invokespecial 50, 3) := dk_183 0 50 (dk_at dksJ6_append_0 2 rfl rfl)
theorem dJ6_append_5 : decode cJ6_append 5 = .ok (.pop, 1) := dk_87 (dk_at dksJ6_append_0 5 rfl rfl)
theorem dJ6_append_6 : decode cJ6_append 6 = .ok (.aload_n 0, 1) := dk_42 (dk_at dksJ6_append_0 6 rfl rfl)
theorem dJ6_append_7 : decode cJ6_append 7 = .ok (.areturn, 1) := dk_176 (dk_at dksJ6_append_0 7 rfl rfl)
theorem q406 : (Jvm.Cond.code ({ cls := "java/lang/AbstractStringBuilder", name := "append", desc := "(C)Ljava/lang/AbstractStringBuilder;" } : Jvm.MethodName) prog_28_method_31_code (2 : Nat) (Option.some (Jvm.ClassFile.FieldType.object "java/lang/AbstractStringBuilder"))) ∈ lw_all := lw_g (lw_at lw_m2 86 rfl) rfl
theorem zk_J5_append : zz_cd yJ5_append cJ5_append 2 (some (.object "java/lang/AbstractStringBuilder")) none ∈ lw_all := q406
theorem zy_J5_append : zz_yok yJ5_append 1 = true := by decide +kernel
theorem q404 : (Jvm.Cond.methodLink "java/lang/StringBuilder" (50 : Nat) ({ cls := "java/lang/AbstractStringBuilder", name := "append", desc := "(C)Ljava/lang/AbstractStringBuilder;" } : Jvm.MethodName)) ∈ lw_all := lw_g (lw_at lw_m2 84 rfl) rfl
theorem q2861 : (Jvm.Cond.sameMethod "java/lang/AbstractStringBuilder" "java/lang/AbstractStringBuilder" "append" "(C)Ljava/lang/AbstractStringBuilder;") ∈ lw_all := lw_g (lw_at lw_m12 141 rfl) rfl
theorem q405 : (Jvm.Cond.instanceMethod ({ cls := "java/lang/AbstractStringBuilder", name := "append", desc := "(C)Ljava/lang/AbstractStringBuilder;" } : Jvm.MethodName)) ∈ lw_all := lw_g (lw_at lw_m2 85 rfl) rfl
def wp_J6_append (Z : zzG) (this : Option Nat) (p0 : Int32) (M : zzM) (bc bs : Nat) (K : Option Value → zzM → Prop) : Prop := zty Z M this fun t => t = 20 ∧ zcc bc bs (fun c s k => wp_J5_append Z this p0 M c s k) fun r1 M2 bc3 bs4 => zrA r1 fun x5 => K (some (va_rf this)) M2
theorem ok_J6_append {Z : zzG} {l : Launch} (hl : l.stackTraces = false) {this : Option Nat} {p0 : Int32} {M : zzM} {mc ms : Nat} {K : Option Value → zzM → Prop} (hw : wp_J6_append Z this p0 M mc ms K) : zz_Met Z l yJ6_append (zz_ws yJ6_append cJ6_append 2 (some (.object "java/lang/StringBuilder")) none) 6 [va_rf this, .int p0] M mc ms K (fun _ _ _ => False) := by
  refine zz_ofW hl (plainFor_of_name (by decide)) (by simp only [zz_sl0, zz_slI, zz_slJ, zz_slA] <;> decide) (fun G hZ hll C E hH hR hin => ?_)
  subst hZ
  subst hll
  rw [show lv_args 0 [va_rf this, .int p0] = [(0, va_rf this), (1, .int p0)] by simp only [zz_la0, zz_laI, zz_laJ, zz_laA]]
  unfold wp_J6_append at hw
  refine zz_aload_n C dJ6_append_0 rfl 0 rfl ?_
  refine zz_iload_n C dJ6_append_1 rfl 1 rfl ?_
  obtain ⟨a9, t9, b9, fs9, hro, hL, rfl, hw⟩ := ztyS hw
  obtain ⟨c9, s9, hc9, hs9, hw⟩ := hw
  refine zz_callSU (r := (zR_20, zT_20, 4)) (As := [.int p0]) (rest := []) C hR hro dJ6_append_2 q404 q2861 q302 q405 zl_java_lang_AbstractStringBuilder zk_J5_append (by decide) zy_J5_append rfl (by decide) (by decide) hL (ok_J5_append (zz_hl C) hw) hc9 hs9 (zz_cat10 _ (Nat.le_of_ble_eq_true rfl)) (fun r1 M2 hw => zz_kA hw (fun x5 hw => ?_)) (fun _ _ _ h9 => h9.elim) rfl
  refine zz_pop C dJ6_append_5 (zz_cat _) ?_
  refine zz_aload_n C dJ6_append_6 rfl 0 rfl ?_
  exact zz_aret C E (Or.inl ⟨_, rfl⟩) dJ6_append_7 hw
abbrev cX3_word : ByteArray := prog_12_method_15_code
def yX3_word : MethodName := ⟨"DebateHall$Minutes", "word", "(LDebateHall$Item;)Ljava/lang/String;"⟩
def dkwX3_word_1 : List UInt8 := [167, 0, 5, 18, 172, 176]
abbrev dktX3_word_1 : List UInt8 := dkwX3_word_1 ++ []
def dkwX3_word_0 : List UInt8 := [42, 43, 182, 0, 121, 153, 0, 8, 18, 168, 167, 0, 18, 42, 43, 182, 0, 117, 153, 0, 8, 18, 170]
abbrev dktX3_word_0 : List UInt8 := dkwX3_word_0 ++ dktX3_word_1
theorem dksX3_word_0 : cX3_word.data.toList.drop 0 = dktX3_word_0 := by decide +kernel
theorem dksX3_word_1 : cX3_word.data.toList.drop 23 = dktX3_word_1 := dk_seg dksX3_word_0 23 rfl rfl
theorem dX3_word_0 : decode cX3_word 0 = .ok (.aload_n 0, 1) := dk_42 (dk_at dksX3_word_0 0 rfl rfl)
theorem dX3_word_1 : decode cX3_word 1 = .ok (.aload_n 1, 1) := dk_43 (dk_at dksX3_word_0 1 rfl rfl)
theorem dX3_word_2 : decode cX3_word 2 = .ok (.invokevirtual 121, 3) := dk_182 0 121 (dk_at dksX3_word_0 2 rfl rfl)
theorem dX3_word_5 : decode cX3_word 5 = .ok (.ifCond .eq 8, 3) := dk_153 0 8 (dk_at dksX3_word_0 5 rfl rfl)
theorem dX3_word_8 : decode cX3_word 8 = .ok (.ldc 168, 2) := dk_18 168 (dk_at dksX3_word_0 8 rfl rfl)
theorem dX3_word_10 : decode cX3_word 10 = .ok (.goto 18, 3) := dk_167 0 18 (dk_at dksX3_word_0 10 rfl rfl)
theorem dX3_word_13 : decode cX3_word 13 = .ok (.aload_n 0, 1) := dk_42 (dk_at dksX3_word_0 13 rfl rfl)
theorem dX3_word_14 : decode cX3_word 14 = .ok (.aload_n 1, 1) := dk_43 (dk_at dksX3_word_0 14 rfl rfl)
theorem dX3_word_15 : decode cX3_word 15 = .ok (.invokevirtual 117, 3) := dk_182 0 117 (dk_at dksX3_word_0 15 rfl rfl)
theorem dX3_word_18 : decode cX3_word 18 = .ok (.ifCond .eq 8, 3) := dk_153 0 8 (dk_at dksX3_word_0 18 rfl rfl)
theorem dX3_word_21 : decode cX3_word 21 = .ok (.ldc 170, 2) := dk_18 170 (dk_at dksX3_word_0 21 rfl rfl)
theorem dX3_word_23 : decode cX3_word 23 = .ok (.goto 5, 3) := dk_167 0 5 (dk_at dksX3_word_1 0 rfl rfl)
theorem dX3_word_26 : decode cX3_word 26 = .ok (.ldc 172, 2) := dk_18 172 (dk_at dksX3_word_1 3 rfl rfl)
theorem dX3_word_28 : decode cX3_word 28 = .ok (.areturn, 1) := dk_176 (dk_at dksX3_word_1 5 rfl rfl)
def wp_X3_word_B28 (Z : zzG) (K : Option Value → zzM → Prop) (s0 : Option Nat) (M : zzM) : Prop := K (some (va_rf s0)) M
def wp_X3_word (Z : zzG) (this : Option Nat) (p0 : Option Nat) (M : zzM) (K : Option Value → zzM → Prop) : Prop := zty Z M this fun t => t = 2 ∧ wp_X3_isIn Z this p0 M (fun r1 M2 => zrI r1 fun x5 => if x5 = 0 then (zty Z M2 this fun t => t = 2 ∧ wp_X3_isOut Z this p0 M2 (fun r6 M7 => zrI r6 fun x10 => if x10 = 0 then (wp_X3_word_B28 Z K (some (zz_ad Z 152)) M7) else (wp_X3_word_B28 Z K (some (zz_ad Z 159)) M7))) else (wp_X3_word_B28 Z K (some (zz_ad Z 142)) M2))
theorem ok_X3_word_B28 {G : zzX} (C : zz_C G cX3_word "DebateHall$Minutes" 2) {K : Option Value → zzM → Prop} (E : zz_E G (some (.object "java/lang/String")) K (fun _ _ _ => False)) (hH : zz_H G []) (hR : zz_Rm G 2) {s0 : Option Nat} {M : zzM} {bc bs : Nat} (hw : wp_X3_word_B28 (zz_Zof G) K s0 M) : zz_T G 2 M bc bs 28 [] [va_rf s0] := by
  unfold wp_X3_word_B28 at hw
  exact zz_aret C E (Or.inl ⟨_, rfl⟩) dX3_word_28 hw
theorem ok_X3_word {Z : zzG} {l : Launch} (hl : l.stackTraces = false) {this : Option Nat} {p0 : Option Nat} {M : zzM} {mc ms : Nat} {K : Option Value → zzM → Prop} (hw : wp_X3_word Z this p0 M K) : zz_Met Z l yX3_word (zz_ws yX3_word cX3_word 2 (some (.object "java/lang/String")) none) 2 [va_rf this, va_rf p0] M mc ms K (fun _ _ _ => False) := by
  refine zz_ofW hl (plainFor_of_name (by decide)) (by simp only [zz_sl0, zz_slI, zz_slJ, zz_slA] <;> decide) (fun G hZ hll C E hH hR hin => ?_)
  subst hZ
  subst hll
  rw [show lv_args 0 [va_rf this, va_rf p0] = [(0, va_rf this), (1, va_rf p0)] by simp only [zz_la0, zz_laI, zz_laJ, zz_laA]]
  unfold wp_X3_word at hw
  refine zz_aload_n C dX3_word_0 rfl 0 rfl ?_
  refine zz_aload_n C dX3_word_1 rfl 1 rfl ?_
  obtain ⟨a9, t9, b9, fs9, hro, hL, rfl, hw⟩ := ztyS hw
  refine zz_callV (r := (zR_2, zT_2, 8)) (As := [va_rf p0]) (rest := []) (mc := 0) (ms := 0) C hR hro dX3_word_2 (Or.inl q1942) q1944 (Or.inl qs19) zl_DebateHall_Minutes zk_X3_isIn (Or.inl rfl) zy_X3_isIn rfl (by decide) (by decide) hL (ok_X3_isIn (zz_hl C) hw) (Nat.zero_le _) (Nat.zero_le _) (zz_cat10 _ (Nat.le_of_ble_eq_true rfl)) (fun r1 M2 hw => zz_kI hw (fun x5 hw => ?_)) (fun _ _ _ h9 => h9.elim) rfl
  refine zz_if_eq (tgt := 13) C dX3_word_5 (by decide) hw (fun hw => ?_) (fun hw => ?_)
  · refine zz_aload_n C dX3_word_13 rfl 0 rfl ?_
    refine zz_aload_n C dX3_word_14 rfl 1 rfl ?_
    obtain ⟨a9, t9, b9, fs9, hro, hL, rfl, hw⟩ := ztyS hw
    refine zz_callV (r := (zR_2, zT_2, 8)) (As := [va_rf p0]) (rest := []) (mc := 0) (ms := 0) C hR hro dX3_word_15 (Or.inl q1938) q1940 (Or.inl qs18) zl_DebateHall_Minutes zk_X3_isOut (Or.inl rfl) zy_X3_isOut rfl (by decide) (by decide) hL (ok_X3_isOut (zz_hl C) hw) (Nat.zero_le _) (Nat.zero_le _) (zz_cat10 _ (Nat.le_of_ble_eq_true rfl)) (fun r6 M7 hw => zz_kI hw (fun x10 hw => ?_)) (fun _ _ _ h9 => h9.elim) rfl
    refine zz_if_eq (tgt := 26) C dX3_word_18 (by decide) hw (fun hw => ?_) (fun hw => ?_)
    · refine zz_ldcS (j := 52) C dX3_word_26 rfl ?_
      refine zz_subP [] rfl ?_
      exact ok_X3_word_B28 C E hH hR hw
    · refine zz_ldcS (j := 59) C dX3_word_21 rfl ?_
      refine zz_goto (tgt := 28) C dX3_word_23 (by decide) ?_
      refine zz_subP [] rfl ?_
      exact ok_X3_word_B28 C E hH hR hw
  · refine zz_ldcS (j := 42) C dX3_word_8 rfl ?_
    refine zz_goto (tgt := 28) C dX3_word_10 (by decide) ?_
    refine zz_subP [] rfl ?_
    exact ok_X3_word_B28 C E hH hR hw
abbrev cX1_sheet : ByteArray := prog_1_method_33_code
def yX1_sheet : MethodName := ⟨"DebateHall", "sheet", "()I"⟩
def dkwX1_sheet_4 : List UInt8 := [182, 1, 21, 182, 1, 13, 16, 10, 182, 1, 17, 87, 167, 255, 176, 42, 180, 0, 43, 182, 0, 175, 172]
abbrev dktX1_sheet_4 : List UInt8 := dkwX1_sheet_4 ++ []
def dkwX1_sheet_3 : List UInt8 := [182, 0, 64, 192, 0, 178, 180, 1, 20, 182, 1, 13, 16, 32, 182, 1, 17, 42, 180, 0, 36, 44]
abbrev dktX1_sheet_3 : List UInt8 := dkwX1_sheet_3 ++ dktX1_sheet_4
def dkwX1_sheet_2 : List UInt8 := [180, 1, 9, 182, 1, 13, 16, 32, 182, 1, 17, 42, 180, 0, 36, 180, 0, 47, 44, 180, 0, 143]
abbrev dktX1_sheet_2 : List UInt8 := dkwX1_sheet_2 ++ dktX1_sheet_3
def dkwX1_sheet_1 : List UInt8 := [185, 0, 110, 1, 0, 153, 0, 77, 43, 185, 0, 116, 1, 0, 192, 0, 68, 77, 42, 180, 0, 43, 44]
abbrev dktX1_sheet_1 : List UInt8 := dkwX1_sheet_1 ++ dktX1_sheet_2
def dkwX1_sheet_0 : List UInt8 := [42, 180, 0, 43, 3, 182, 1, 6, 42, 180, 0, 36, 180, 0, 61, 182, 0, 138, 76, 43]
abbrev dktX1_sheet_0 : List UInt8 := dkwX1_sheet_0 ++ dktX1_sheet_1
theorem dksX1_sheet_0 : cX1_sheet.data.toList.drop 0 = dktX1_sheet_0 := by decide +kernel
theorem dksX1_sheet_1 : cX1_sheet.data.toList.drop 20 = dktX1_sheet_1 := dk_seg dksX1_sheet_0 20 rfl rfl
theorem dksX1_sheet_2 : cX1_sheet.data.toList.drop 43 = dktX1_sheet_2 := dk_seg dksX1_sheet_1 23 rfl rfl
theorem dksX1_sheet_3 : cX1_sheet.data.toList.drop 65 = dktX1_sheet_3 := dk_seg dksX1_sheet_2 22 rfl rfl
theorem dksX1_sheet_4 : cX1_sheet.data.toList.drop 87 = dktX1_sheet_4 := dk_seg dksX1_sheet_3 22 rfl rfl
theorem dX1_sheet_0 : decode cX1_sheet 0 = .ok (.aload_n 0, 1) := dk_42 (dk_at dksX1_sheet_0 0 rfl rfl)
theorem dX1_sheet_1 : decode cX1_sheet 1 = .ok (.getfield 43, 3) := dk_180 0 43 (dk_at dksX1_sheet_0 1 rfl rfl)
theorem dX1_sheet_4 : decode cX1_sheet 4 = .ok (.iconst 0, 1) := dk_3 (dk_at dksX1_sheet_0 4 rfl rfl)
theorem dX1_sheet_5 : decode cX1_sheet 5 = .ok (.invokevirtual 262, 3) := dk_182 1 6 (dk_at dksX1_sheet_0 5 rfl rfl)
theorem dX1_sheet_8 : decode cX1_sheet 8 = .ok (.aload_n 0, 1) := dk_42 (dk_at dksX1_sheet_0 8 rfl rfl)
theorem dX1_sheet_9 : decode cX1_sheet 9 = .ok (.getfield 36, 3) := dk_180 0 36 (dk_at dksX1_sheet_0 9 rfl rfl)
theorem dX1_sheet_12 : decode cX1_sheet 12 = .ok (.getfield 61, 3) := dk_180 0 61 (dk_at dksX1_sheet_0 12 rfl rfl)
theorem dX1_sheet_15 : decode cX1_sheet 15 = .ok (.invokevirtual 138, 3) := dk_182 0 138 (dk_at dksX1_sheet_0 15 rfl rfl)
theorem dX1_sheet_18 : decode cX1_sheet 18 = .ok (.astore_n 1, 1) := dk_76 (dk_at dksX1_sheet_0 18 rfl rfl)
theorem dX1_sheet_19 : decode cX1_sheet 19 = .ok (.aload_n 1, 1) := dk_43 (dk_at dksX1_sheet_0 19 rfl rfl)
theorem dX1_sheet_20 : decode cX1_sheet 20 = .ok (.invokeinterface 110 1, 5) := by decide +kernel
theorem dX1_sheet_25 : decode cX1_sheet 25 = .ok (.ifCond .eq 77, 3) := dk_153 0 77 (dk_at dksX1_sheet_1 5 rfl rfl)
theorem dX1_sheet_28 : decode cX1_sheet 28 = .ok (.aload_n 1, 1) := dk_43 (dk_at dksX1_sheet_1 8 rfl rfl)
theorem dX1_sheet_29 : decode cX1_sheet 29 = .ok (.invokeinterface 116 1, 5) := by decide +kernel
theorem dX1_sheet_34 : decode cX1_sheet 34 = .ok (.checkcast 68, 3) := dk_192 0 68 (dk_at dksX1_sheet_1 14 rfl rfl)
theorem dX1_sheet_37 : decode cX1_sheet 37 = .ok (.astore_n 2, 1) := dk_77 (dk_at dksX1_sheet_1 17 rfl rfl)
theorem dX1_sheet_38 : decode cX1_sheet 38 = .ok (.aload_n 0, 1) := dk_42 (dk_at dksX1_sheet_1 18 rfl rfl)
theorem dX1_sheet_39 : decode cX1_sheet 39 = .ok (.getfield 43, 3) := dk_180 0 43 (dk_at dksX1_sheet_1 19 rfl rfl)
theorem dX1_sheet_42 : decode cX1_sheet 42 = .ok (.aload_n 2, 1) := dk_44 (dk_at dksX1_sheet_1 22 rfl rfl)
theorem dX1_sheet_43 : decode cX1_sheet 43 = .ok (.getfield 265, 3) := dk_180 1 9 (dk_at dksX1_sheet_2 0 rfl rfl)
theorem dX1_sheet_46 : decode cX1_sheet 46 = .ok (.invokevirtual 269, 3) := dk_182 1 13 (dk_at dksX1_sheet_2 3 rfl rfl)
theorem dX1_sheet_49 : decode cX1_sheet 49 = .ok (.bipush 32, 2) := dk_16 32 (dk_at dksX1_sheet_2 6 rfl rfl)
theorem dX1_sheet_51 : decode cX1_sheet 51 = .ok (.invokevirtual 273, 3) := dk_182 1 17 (dk_at dksX1_sheet_2 8 rfl rfl)
theorem dX1_sheet_54 : decode cX1_sheet 54 = .ok (.aload_n 0, 1) := dk_42 (dk_at dksX1_sheet_2 11 rfl rfl)
theorem dX1_sheet_55 : decode cX1_sheet 55 = .ok (.getfield 36, 3) := dk_180 0 36 (dk_at dksX1_sheet_2 12 rfl rfl)
theorem dX1_sheet_58 : decode cX1_sheet 58 = .ok (.getfield 47, 3) := dk_180 0 47 (dk_at dksX1_sheet_2 15 rfl rfl)
theorem dX1_sheet_61 : decode cX1_sheet 61 = .ok (.aload_n 2, 1) := dk_44 (dk_at dksX1_sheet_2 18 rfl rfl)
theorem dX1_sheet_62 : decode cX1_sheet 62 = .ok (.getfield 143, 3) := dk_180 0 143 (dk_at dksX1_sheet_2 19 rfl rfl)
theorem dX1_sheet_65 : decode cX1_sheet 65 = .ok (.invokevirtual 64, 3) := dk_182 0 64 (dk_at dksX1_sheet_3 0 rfl rfl)
theorem dX1_sheet_68 : decode cX1_sheet 68 = .ok (.checkcast 178, 3) := dk_192 0 178 (dk_at dksX1_sheet_3 3 rfl rfl)
theorem dX1_sheet_71 : decode cX1_sheet 71 = .ok (.getfield 276, 3) := dk_180 1 20 (dk_at dksX1_sheet_3 6 rfl rfl)
theorem dX1_sheet_74 : decode cX1_sheet 74 = .ok (.invokevirtual 269, 3) := dk_182 1 13 (dk_at dksX1_sheet_3 9 rfl rfl)
theorem dX1_sheet_77 : decode cX1_sheet 77 = .ok (.bipush 32, 2) := dk_16 32 (dk_at dksX1_sheet_3 12 rfl rfl)
theorem dX1_sheet_79 : decode cX1_sheet 79 = .ok (.invokevirtual 273, 3) := dk_182 1 17 (dk_at dksX1_sheet_3 14 rfl rfl)
theorem dX1_sheet_82 : decode cX1_sheet 82 = .ok (.aload_n 0, 1) := dk_42 (dk_at dksX1_sheet_3 17 rfl rfl)
theorem dX1_sheet_83 : decode cX1_sheet 83 = .ok (.getfield 36, 3) := dk_180 0 36 (dk_at dksX1_sheet_3 18 rfl rfl)
theorem dX1_sheet_86 : decode cX1_sheet 86 = .ok (.aload_n 2, 1) := dk_44 (dk_at dksX1_sheet_3 21 rfl rfl)
theorem dX1_sheet_87 : decode cX1_sheet 87 = .ok (.invokevirtual 277, 3) := dk_182 1 21 (dk_at dksX1_sheet_4 0 rfl rfl)
theorem dX1_sheet_90 : decode cX1_sheet 90 = .ok (.invokevirtual 269, 3) := dk_182 1 13 (dk_at dksX1_sheet_4 3 rfl rfl)
theorem dX1_sheet_93 : decode cX1_sheet 93 = .ok (.bipush 10, 2) := dk_16 10 (dk_at dksX1_sheet_4 6 rfl rfl)
theorem dX1_sheet_95 : decode cX1_sheet 95 = .ok (.invokevirtual 273, 3) := dk_182 1 17 (dk_at dksX1_sheet_4 8 rfl rfl)
theorem dX1_sheet_98 : decode cX1_sheet 98 = .ok (.pop, 1) := dk_87 (dk_at dksX1_sheet_4 11 rfl rfl)
theorem dX1_sheet_99 : decode cX1_sheet 99 = .ok (.goto (-80), 3) := dk_167 255 176 (dk_at dksX1_sheet_4 12 rfl rfl)
theorem dX1_sheet_102 : decode cX1_sheet 102 = .ok (.aload_n 0, 1) := dk_42 (dk_at dksX1_sheet_4 15 rfl rfl)
theorem dX1_sheet_103 : decode cX1_sheet 103 = .ok (.getfield 43, 3) := dk_180 0 43 (dk_at dksX1_sheet_4 16 rfl rfl)
theorem dX1_sheet_106 : decode cX1_sheet 106 = .ok (.invokevirtual 175, 3) := dk_182 0 175 (dk_at dksX1_sheet_4 19 rfl rfl)
theorem dX1_sheet_109 : decode cX1_sheet 109 = .ok (.ireturn, 1) := dk_172 (dk_at dksX1_sheet_4 22 rfl rfl)
theorem q2039 : (Jvm.Cond.code ({ cls := "java/lang/StringBuilder", name := "setLength", desc := "(I)V" } : Jvm.MethodName) prog_47_method_89_code (2 : Nat) (Option.none : Option Jvm.ClassFile.FieldType)) ∈ lw_all := lw_g (lw_at lw_m9 39 rfl) rfl
theorem zk_J6_setLength : zz_cd yJ6_setLength cJ6_setLength 2 none none ∈ lw_all := q2039
theorem zy_J6_setLength : zz_yok yJ6_setLength 1 = true := by decide +kernel
theorem q2036 : (Jvm.Cond.methodLink "DebateHall" (262 : Nat) ({ cls := "java/lang/StringBuilder", name := "setLength", desc := "(I)V" } : Jvm.MethodName)) ∈ lw_all := lw_g (lw_at lw_m9 36 rfl) rfl
theorem q2037 : (Jvm.Cond.instanceMethod ({ cls := "java/lang/StringBuilder", name := "setLength", desc := "(I)V" } : Jvm.MethodName)) ∈ lw_all := lw_g (lw_at lw_m9 37 rfl) rfl
theorem q2038 : (Jvm.Cond.selects "java/lang/StringBuilder" ({ cls := "java/lang/StringBuilder", name := "setLength", desc := "(I)V" } : Jvm.MethodName) ({ cls := "java/lang/StringBuilder", name := "setLength", desc := "(I)V" } : Jvm.MethodName)) ∈ lw_all := lw_g (lw_at lw_m9 38 rfl) rfl
theorem zf_15_2_ebateHall_Item : zz_fok [15] 2 "DebateHall$Item" "name" "Ljava/lang/String;" := zz_fok1 (zR_15, zT_15, 8) rfl (by decide) rfl rfl (Or.inl rfl)
theorem q1744 : (Jvm.Cond.fieldLinkNest "DebateHall" (265 : Nat) "DebateHall$Item" "name" "Ljava/lang/String;" "DebateHall") ∈ lw_tbl := lw_at lw_m7 224 rfl
theorem q615 : (Jvm.Cond.code ({ cls := "java/lang/StringBuilder", name := "append", desc := "(Ljava/lang/String;)Ljava/lang/StringBuilder;" } : Jvm.MethodName) prog_47_method_7_code (2 : Nat) (Option.some (Jvm.ClassFile.FieldType.object "java/lang/StringBuilder"))) ∈ lw_all := lw_g (lw_at lw_m3 55 rfl) rfl
theorem zk_J6_append_3 : zz_cd yJ6_append_3 cJ6_append_3 2 (some (.object "java/lang/StringBuilder")) none ∈ lw_all := q615
theorem zy_J6_append_3 : zz_yok yJ6_append_3 1 = true := by decide +kernel
theorem q403 : (Jvm.Cond.code ({ cls := "java/lang/StringBuilder", name := "append", desc := "(C)Ljava/lang/StringBuilder;" } : Jvm.MethodName) prog_47_method_14_code (2 : Nat) (Option.some (Jvm.ClassFile.FieldType.object "java/lang/StringBuilder"))) ∈ lw_all := lw_g (lw_at lw_m2 83 rfl) rfl
theorem zk_J6_append : zz_cd yJ6_append cJ6_append 2 (some (.object "java/lang/StringBuilder")) none ∈ lw_all := q403
theorem zy_J6_append : zz_yok yJ6_append 1 = true := by decide +kernel
theorem zf_14_1_teHall_Speaker : zz_fok [14] 1 "DebateHall$Speaker" "name" "Ljava/lang/String;" := zz_fok1 (zR_14, zT_14, 3) rfl (by decide) rfl rfl (Or.inl rfl)
theorem q1201 : (Jvm.Cond.fieldLinkNest "DebateHall" (276 : Nat) "DebateHall$Speaker" "name" "Ljava/lang/String;" "DebateHall") ∈ lw_tbl := lw_at lw_m5 161 rfl
theorem q1982 : (Jvm.Cond.code ({ cls := "DebateHall$Minutes", name := "word", desc := "(LDebateHall$Item;)Ljava/lang/String;" } : Jvm.MethodName) prog_12_method_15_code (2 : Nat) (Option.some (Jvm.ClassFile.FieldType.object "java/lang/String"))) ∈ lw_all := lw_g (lw_at lw_m8 222 rfl) rfl
theorem zk_X3_word : zz_cd yX3_word cX3_word 2 (some (.object "java/lang/String")) none ∈ lw_all := q1982
theorem zy_X3_word : zz_yok yX3_word 1 = true := by decide +kernel
theorem q2107 : (Jvm.Cond.methodLink "DebateHall" (273 : Nat) ({ cls := "java/lang/StringBuilder", name := "append", desc := "(C)Ljava/lang/StringBuilder;" } : Jvm.MethodName)) ∈ lw_all := lw_g (lw_at lw_m9 107 rfl) rfl
theorem q401 : (Jvm.Cond.instanceMethod ({ cls := "java/lang/StringBuilder", name := "append", desc := "(C)Ljava/lang/StringBuilder;" } : Jvm.MethodName)) ∈ lw_all := lw_g (lw_at lw_m2 81 rfl) rfl
theorem q402 : (Jvm.Cond.selects "java/lang/StringBuilder" ({ cls := "java/lang/StringBuilder", name := "append", desc := "(C)Ljava/lang/StringBuilder;" } : Jvm.MethodName) ({ cls := "java/lang/StringBuilder", name := "append", desc := "(C)Ljava/lang/StringBuilder;" } : Jvm.MethodName)) ∈ lw_all := lw_g (lw_at lw_m2 82 rfl) rfl
theorem q2106 : (Jvm.Cond.methodLink "DebateHall" (269 : Nat) ({ cls := "java/lang/StringBuilder", name := "append", desc := "(Ljava/lang/String;)Ljava/lang/StringBuilder;" } : Jvm.MethodName)) ∈ lw_all := lw_g (lw_at lw_m9 106 rfl) rfl
theorem q613 : (Jvm.Cond.instanceMethod ({ cls := "java/lang/StringBuilder", name := "append", desc := "(Ljava/lang/String;)Ljava/lang/StringBuilder;" } : Jvm.MethodName)) ∈ lw_all := lw_g (lw_at lw_m3 53 rfl) rfl
theorem q614 : (Jvm.Cond.selects "java/lang/StringBuilder" ({ cls := "java/lang/StringBuilder", name := "append", desc := "(Ljava/lang/String;)Ljava/lang/StringBuilder;" } : Jvm.MethodName) ({ cls := "java/lang/StringBuilder", name := "append", desc := "(Ljava/lang/String;)Ljava/lang/StringBuilder;" } : Jvm.MethodName)) ∈ lw_all := lw_g (lw_at lw_m3 54 rfl) rfl
theorem q2110 : (Jvm.Cond.methodLink "DebateHall" (277 : Nat) ({ cls := "DebateHall$Minutes", name := "word", desc := "(LDebateHall$Item;)Ljava/lang/String;" } : Jvm.MethodName)) ∈ lw_all := lw_g (lw_at lw_m9 110 rfl) rfl
theorem q1980 : (Jvm.Cond.instanceMethod ({ cls := "DebateHall$Minutes", name := "word", desc := "(LDebateHall$Item;)Ljava/lang/String;" } : Jvm.MethodName)) ∈ lw_all := lw_g (lw_at lw_m8 220 rfl) rfl
theorem q1981 : (Jvm.Cond.selects "DebateHall$Minutes" ({ cls := "DebateHall$Minutes", name := "word", desc := "(LDebateHall$Item;)Ljava/lang/String;" } : Jvm.MethodName) ({ cls := "DebateHall$Minutes", name := "word", desc := "(LDebateHall$Item;)Ljava/lang/String;" } : Jvm.MethodName)) ∈ lw_all := lw_g (lw_at lw_m8 221 rfl) rfl
def wp_X1_sheet_L19 (Z : zzG) (K : Option Value → zzM → Prop) : Nat → Option Nat → Option Nat → zzM → Nat → Nat → Prop
  | 0, _, _, _, _, _ => False
  | n + 1, v0, v1, M, bc, bs => zty Z M v1 fun t => t = 23 ∧ wp_J24_hasNext Z v1 M (fun r13 M14 => zrI r13 fun x17 => if x17 = 0 then (zgA Z M14 v0 [0] 3 fun x18 => zty Z M14 x18 fun t => t = 20 ∧ wp_J6_length Z x18 M14 (fun r19 M20 => zrI r19 fun x23 => K (some (.int x23)) M20)) else (zty Z M14 v1 fun t => t = 23 ∧ wp_J24_next Z v1 M14 (fun r24 M25 => zrA r24 fun x28 => zcast Z M25 x28 [15] <| zgA Z M25 v0 [0] 3 fun x29 => zgA Z M25 x28 [15] 2 fun x30 => zty Z M25 x29 fun t => t = 20 ∧ zcc bc bs (fun c s k => wp_J6_append_3 Z x29 x30 M25 c s k) fun r31 M32 bc33 bs34 => zrA r31 fun x35 => zty Z M32 x35 fun t => t = 20 ∧ zcc bc33 bs34 (fun c s k => wp_J6_append Z x35 (32 : Int32) M32 c s k) fun r36 M37 bc38 bs39 => zrA r36 fun x40 => zgA Z M37 v0 [0] 2 fun x41 => zgA Z M37 x41 [2] 0 fun x42 => zgI Z M37 x28 [15] 3 fun x43 => zty Z M37 x42 fun t => t = 18 ∧ wp_J2_get Z x42 x43 M37 (fun r44 M45 => zrA r44 fun x48 => zcast Z M45 x48 [14] <| zgA Z M45 x48 [14] 1 fun x49 => zty Z M45 x40 fun t => t = 20 ∧ zcc bc38 bs39 (fun c s k => wp_J6_append_3 Z x40 x49 M45 c s k) fun r50 M51 bc52 bs53 => zrA r50 fun x54 => zty Z M51 x54 fun t => t = 20 ∧ zcc bc52 bs53 (fun c s k => wp_J6_append Z x54 (32 : Int32) M51 c s k) fun r55 M56 bc57 bs58 => zrA r55 fun x59 => zgA Z M56 v0 [0] 2 fun x60 => zty Z M56 x60 fun t => t = 2 ∧ wp_X3_word Z x60 x28 M56 (fun r61 M62 => zrA r61 fun x65 => zty Z M62 x59 fun t => t = 20 ∧ zcc bc57 bs58 (fun c s k => wp_J6_append_3 Z x59 x65 M62 c s k) fun r66 M67 bc68 bs69 => zrA r66 fun x70 => zty Z M67 x70 fun t => t = 20 ∧ zcc bc68 bs69 (fun c s k => wp_J6_append Z x70 (10 : Int32) M67 c s k) fun r71 M72 bc73 bs74 => zrA r71 fun x75 => wp_X1_sheet_L19 Z K n v0 v1 M72 bc73 bs74)))))
def wp_X1_sheet (Z : zzG) (this : Option Nat) (M : zzM) (bc bs : Nat) (K : Option Value → zzM → Prop) : Prop := zgA Z M this [0] 3 fun x1 => zty Z M x1 fun t => t = 20 ∧ zcc bc bs (fun c s k => wp_J6_setLength Z x1 (0 : Int32) M c s k) fun r2 M3 bc4 bs5 => zrV r2 (zgA Z M3 this [0] 2 fun x6 => zgA Z M3 x6 [2] 1 fun x7 => zty Z M3 x7 fun t => t = 18 ∧ zcc bc4 bs5 (fun c s k => wp_J2_iterator Z x7 M3 c s k) fun r8 M9 bc10 bs11 => zrA r8 fun x12 => ∃ n19 : Nat, wp_X1_sheet_L19 Z K n19 this x12 M9 bc10 bs11)
theorem ok_X1_sheet_L19 {G : zzX} (C : zz_C G cX1_sheet "DebateHall" 3) {K : Option Value → zzM → Prop} (E : zz_E G (some .int) K (fun _ _ _ => False)) (hH : zz_H G []) (hR : zz_Rm G 7) : ∀ (n : Nat) (v0 : Option Nat) (v1 : Option Nat) (M : zzM) (bc bs : Nat), wp_X1_sheet_L19 (zz_Zof G) K n v0 v1 M bc bs → zz_T G 3 M bc bs 19 [(0, va_rf v0), (1, va_rf v1)] [] := by
  intro n
  induction n with
  | zero =>
    intro v0 v1 M bc bs hw
    exact False.elim hw
  | succ n ih =>
    intro v0 v1 M bc bs hw
    refine zz_aload_n C dX1_sheet_19 rfl 1 rfl ?_
    obtain ⟨a9, t9, b9, fs9, hro, hL, rfl, hw⟩ := ztyS hw
    refine zz_callF (r := (zR_23, zT_23, 4)) (x := ⟨"java/util/Iterator", "hasNext", "()Z"⟩) (As := []) (rest := []) (mc := 0) (ms := 0) C hR hro dX1_sheet_20 q1793 (by decide +kernel) q1174 q1172 zl_java_util_ArrayList_Itr zk_J24_hasNext zyo_java_util_Iterator_hasNext___Z rfl (by decide) (by decide) hL (ok_J24_hasNext (zz_hl C) hw) (Nat.zero_le _) (Nat.zero_le _) (zz_cat10 _ (Nat.le_of_ble_eq_true rfl)) (fun r13 M14 hw => zz_kI hw (fun x17 hw => ?_)) (fun _ _ _ h9 => h9.elim) rfl
    refine zz_if_eq (tgt := 102) C dX1_sheet_25 (by decide) hw (fun hw => ?_) (fun hw => ?_)
    · refine zz_aload_n C dX1_sheet_102 rfl 0 rfl ?_
      refine zz_getA C dX1_sheet_103 (Or.inl q306) zf_0_3_DebateHall hw (fun x18 hw => ?_)
      obtain ⟨a9, t9, b9, fs9, hro, hL, rfl, hw⟩ := ztyS hw
      refine zz_callV (r := (zR_20, zT_20, 4)) (As := []) (rest := []) (mc := 0) (ms := 0) C hR hro dX1_sheet_106 (Or.inl q2111) q517 (Or.inl q2874) zl_java_lang_StringBuilder zk_J6_length (Or.inl rfl) zy_J6_length rfl (by decide) (by decide) hL (ok_J6_length (zz_hl C) hw) (Nat.zero_le _) (Nat.zero_le _) (zz_cat10 _ (Nat.le_of_ble_eq_true rfl)) (fun r19 M20 hw => zz_kI hw (fun x23 hw => ?_)) (fun _ _ _ h9 => h9.elim) rfl
      exact zz_iret C E dX1_sheet_109 hw
    · refine zz_aload_n C dX1_sheet_28 rfl 1 rfl ?_
      obtain ⟨a9, t9, b9, fs9, hro, hL, rfl, hw⟩ := ztyS hw
      refine zz_callF (r := (zR_23, zT_23, 4)) (x := ⟨"java/util/Iterator", "next", "()Ljava/lang/Object;"⟩) (As := []) (rest := []) (mc := 0) (ms := 0) C hR hro dX1_sheet_29 q1795 (by decide +kernel) q1183 q1181 zl_java_util_ArrayList_Itr zk_J24_next zyo_java_util_Iterator_next___Ljava_lang_Object_ rfl (by decide) (by decide) hL (ok_J24_next (zz_hl C) hw) (Nat.zero_le _) (Nat.zero_le _) (zz_cat10 _ (Nat.le_of_ble_eq_true rfl)) (fun r24 M25 hw => zz_kA hw (fun x28 hw => ?_)) (fun _ _ _ h9 => h9.elim) rfl
      refine zz_cast C dX1_sheet_34 q2105 zc_15_ebateHall_Item hw (fun hw => ?_)
      refine zz_astore_n (i := 2) (lv' := [(2, va_rf x28), (0, va_rf v0), (1, va_rf v1)]) C dX1_sheet_37 rfl (by decide) (by simp [zz_cat, zz_catI, zz_catJ, zz_catD]) ?_
      refine zz_aload_n C dX1_sheet_38 rfl 1 rfl ?_
      refine zz_getA C dX1_sheet_39 (Or.inl q306) zf_0_3_DebateHall hw (fun x29 hw => ?_)
      refine zz_aload_n C dX1_sheet_42 rfl 0 rfl ?_
      refine zz_getA C dX1_sheet_43 (Or.inr ⟨_, q1744⟩) zf_15_2_ebateHall_Item hw (fun x30 hw => ?_)
      obtain ⟨a9, t9, b9, fs9, hro, hL, rfl, hw⟩ := ztyS hw
      obtain ⟨c9, s9, hc9, hs9, hw⟩ := hw
      refine zz_callV (r := (zR_20, zT_20, 4)) (As := [va_rf x30]) (rest := []) C hR hro dX1_sheet_46 (Or.inl q2106) q613 (Or.inl q614) zl_java_lang_StringBuilder zk_J6_append_3 (Or.inl rfl) zy_J6_append_3 rfl (by decide) (by decide) hL (ok_J6_append_3 (zz_hl C) hw) hc9 hs9 (zz_cat10 _ (Nat.le_of_ble_eq_true rfl)) (fun r31 M32 hw => zz_kA hw (fun x35 hw => ?_)) (fun _ _ _ h9 => h9.elim) rfl
      refine zz_bipush (v := (32 : Int32)) C dX1_sheet_49 (by decide) ?_
      obtain ⟨a9, t9, b9, fs9, hro, hL, rfl, hw⟩ := ztyS hw
      obtain ⟨c9, s9, hc9, hs9, hw⟩ := hw
      refine zz_callV (r := (zR_20, zT_20, 4)) (As := [.int (32 : Int32)]) (rest := []) C hR hro dX1_sheet_51 (Or.inl q2107) q401 (Or.inl q402) zl_java_lang_StringBuilder zk_J6_append (Or.inl rfl) zy_J6_append rfl (by decide) (by decide) hL (ok_J6_append (zz_hl C) hw) hc9 hs9 (zz_cat10 _ (Nat.le_of_ble_eq_true rfl)) (fun r36 M37 hw => zz_kA hw (fun x40 hw => ?_)) (fun _ _ _ h9 => h9.elim) rfl
      refine zz_aload_n C dX1_sheet_54 rfl 1 rfl ?_
      refine zz_getA C dX1_sheet_55 (Or.inl q305) zf_0_2_DebateHall hw (fun x41 hw => ?_)
      refine zz_getA C dX1_sheet_58 (Or.inr ⟨_, q233⟩) zf_2_0_teHall_Minutes hw (fun x42 hw => ?_)
      refine zz_aload_n C dX1_sheet_61 rfl 0 rfl ?_
      refine zz_getI C dX1_sheet_62 (Or.inr ⟨_, q1749⟩) zf_15_3_ebateHall_Item hw (fun x43 hw => ?_)
      obtain ⟨a9, t9, b9, fs9, hro, hL, rfl, hw⟩ := ztyS hw
      refine zz_callV (r := (zR_18, zT_18, 3)) (As := [.int x43]) (rest := [va_rf x40]) (mc := 0) (ms := 0) C hR hro dX1_sheet_65 (Or.inl q2108) q877 (Or.inl q2872) zl_java_util_ArrayList zk_J2_get (Or.inl rfl) zy_J2_get rfl (by decide) (by decide) hL (ok_J2_get (zz_hl C) hw) (Nat.zero_le _) (Nat.zero_le _) (zz_cat10 _ (Nat.le_of_ble_eq_true rfl)) (fun r44 M45 hw => zz_kA hw (fun x48 hw => ?_)) (fun _ _ _ h9 => h9.elim) rfl
      refine zz_cast C dX1_sheet_68 q2109 zc_14_teHall_Speaker hw (fun hw => ?_)
      refine zz_getA C dX1_sheet_71 (Or.inr ⟨_, q1201⟩) zf_14_1_teHall_Speaker hw (fun x49 hw => ?_)
      obtain ⟨a9, t9, b9, fs9, hro, hL, rfl, hw⟩ := ztyS hw
      obtain ⟨c9, s9, hc9, hs9, hw⟩ := hw
      refine zz_callV (r := (zR_20, zT_20, 4)) (As := [va_rf x49]) (rest := []) C hR hro dX1_sheet_74 (Or.inl q2106) q613 (Or.inl q614) zl_java_lang_StringBuilder zk_J6_append_3 (Or.inl rfl) zy_J6_append_3 rfl (by decide) (by decide) hL (ok_J6_append_3 (zz_hl C) hw) hc9 hs9 (zz_cat10 _ (Nat.le_of_ble_eq_true rfl)) (fun r50 M51 hw => zz_kA hw (fun x54 hw => ?_)) (fun _ _ _ h9 => h9.elim) rfl
      refine zz_bipush (v := (32 : Int32)) C dX1_sheet_77 (by decide) ?_
      obtain ⟨a9, t9, b9, fs9, hro, hL, rfl, hw⟩ := ztyS hw
      obtain ⟨c9, s9, hc9, hs9, hw⟩ := hw
      refine zz_callV (r := (zR_20, zT_20, 4)) (As := [.int (32 : Int32)]) (rest := []) C hR hro dX1_sheet_79 (Or.inl q2107) q401 (Or.inl q402) zl_java_lang_StringBuilder zk_J6_append (Or.inl rfl) zy_J6_append rfl (by decide) (by decide) hL (ok_J6_append (zz_hl C) hw) hc9 hs9 (zz_cat10 _ (Nat.le_of_ble_eq_true rfl)) (fun r55 M56 hw => zz_kA hw (fun x59 hw => ?_)) (fun _ _ _ h9 => h9.elim) rfl
      refine zz_aload_n C dX1_sheet_82 rfl 1 rfl ?_
      refine zz_getA C dX1_sheet_83 (Or.inl q305) zf_0_2_DebateHall hw (fun x60 hw => ?_)
      refine zz_aload_n C dX1_sheet_86 rfl 0 rfl ?_
      obtain ⟨a9, t9, b9, fs9, hro, hL, rfl, hw⟩ := ztyS hw
      refine zz_callV (r := (zR_2, zT_2, 8)) (As := [va_rf x28]) (rest := [va_rf x59]) (mc := 0) (ms := 0) C hR hro dX1_sheet_87 (Or.inl q2110) q1980 (Or.inl q1981) zl_DebateHall_Minutes zk_X3_word (Or.inl rfl) zy_X3_word rfl (by decide) (by decide) hL (ok_X3_word (zz_hl C) hw) (Nat.zero_le _) (Nat.zero_le _) (zz_cat10 _ (Nat.le_of_ble_eq_true rfl)) (fun r61 M62 hw => zz_kA hw (fun x65 hw => ?_)) (fun _ _ _ h9 => h9.elim) rfl
      obtain ⟨a9, t9, b9, fs9, hro, hL, rfl, hw⟩ := ztyS hw
      obtain ⟨c9, s9, hc9, hs9, hw⟩ := hw
      refine zz_callV (r := (zR_20, zT_20, 4)) (As := [va_rf x65]) (rest := []) C hR hro dX1_sheet_90 (Or.inl q2106) q613 (Or.inl q614) zl_java_lang_StringBuilder zk_J6_append_3 (Or.inl rfl) zy_J6_append_3 rfl (by decide) (by decide) hL (ok_J6_append_3 (zz_hl C) hw) hc9 hs9 (zz_cat10 _ (Nat.le_of_ble_eq_true rfl)) (fun r66 M67 hw => zz_kA hw (fun x70 hw => ?_)) (fun _ _ _ h9 => h9.elim) rfl
      refine zz_bipush (v := (10 : Int32)) C dX1_sheet_93 (by decide) ?_
      obtain ⟨a9, t9, b9, fs9, hro, hL, rfl, hw⟩ := ztyS hw
      obtain ⟨c9, s9, hc9, hs9, hw⟩ := hw
      refine zz_callV (r := (zR_20, zT_20, 4)) (As := [.int (10 : Int32)]) (rest := []) C hR hro dX1_sheet_95 (Or.inl q2107) q401 (Or.inl q402) zl_java_lang_StringBuilder zk_J6_append (Or.inl rfl) zy_J6_append rfl (by decide) (by decide) hL (ok_J6_append (zz_hl C) hw) hc9 hs9 (zz_cat10 _ (Nat.le_of_ble_eq_true rfl)) (fun r71 M72 hw => zz_kA hw (fun x75 hw => ?_)) (fun _ _ _ h9 => h9.elim) rfl
      refine zz_pop C dX1_sheet_98 (zz_cat _) ?_
      refine zz_goto (tgt := 19) C dX1_sheet_99 (by decide) ?_
      refine zz_subP [1, 2] rfl ?_
      exact ih _ _ _ _ _ hw
theorem ok_X1_sheet {Z : zzG} {l : Launch} (hl : l.stackTraces = false) {this : Option Nat} {M : zzM} {mc ms : Nat} {K : Option Value → zzM → Prop} (hw : wp_X1_sheet Z this M mc ms K) : zz_Met Z l yX1_sheet (zz_ws yX1_sheet cX1_sheet 3 (some .int) none) 7 [va_rf this] M mc ms K (fun _ _ _ => False) := by
  refine zz_ofW hl (plainFor_of_name (by decide)) (by simp only [zz_sl0, zz_slI, zz_slJ, zz_slA] <;> decide) (fun G hZ hll C E hH hR hin => ?_)
  subst hZ
  subst hll
  rw [show lv_args 0 [va_rf this] = [(0, va_rf this)] by simp only [zz_la0, zz_laI, zz_laJ, zz_laA]]
  unfold wp_X1_sheet at hw
  refine zz_aload_n C dX1_sheet_0 rfl 0 rfl ?_
  refine zz_getA C dX1_sheet_1 (Or.inl q306) zf_0_3_DebateHall hw (fun x1 hw => ?_)
  refine zz_iconst (v := (0 : Int32)) C dX1_sheet_4 (by decide) ?_
  obtain ⟨a9, t9, b9, fs9, hro, hL, rfl, hw⟩ := ztyS hw
  obtain ⟨c9, s9, hc9, hs9, hw⟩ := hw
  refine zz_callV (r := (zR_20, zT_20, 4)) (As := [.int (0 : Int32)]) (rest := []) C hR hro dX1_sheet_5 (Or.inl q2036) q2037 (Or.inl q2038) zl_java_lang_StringBuilder zk_J6_setLength (Or.inl rfl) zy_J6_setLength rfl (by decide) (by decide) hL (ok_J6_setLength (zz_hl C) hw) hc9 hs9 (zz_cat10 _ (Nat.le_of_ble_eq_true rfl)) (fun r2 M3 hw => zz_kV hw (fun hw => ?_)) (fun _ _ _ h9 => h9.elim) rfl
  refine zz_aload_n C dX1_sheet_8 rfl 0 rfl ?_
  refine zz_getA C dX1_sheet_9 (Or.inl q305) zf_0_2_DebateHall hw (fun x6 hw => ?_)
  refine zz_getA C dX1_sheet_12 (Or.inr ⟨_, q239⟩) zf_2_1_teHall_Minutes hw (fun x7 hw => ?_)
  obtain ⟨a9, t9, b9, fs9, hro, hL, rfl, hw⟩ := ztyS hw
  obtain ⟨c9, s9, hc9, hs9, hw⟩ := hw
  refine zz_callV (r := (zR_18, zT_18, 3)) (As := []) (rest := []) C hR hro dX1_sheet_15 (Or.inl q2104) q1145 (Or.inl q1146) zl_java_util_ArrayList zk_J2_iterator (Or.inl rfl) zy_J2_iterator rfl (by decide) (by decide) hL (ok_J2_iterator (zz_hl C) hw) hc9 hs9 (zz_cat10 _ (Nat.le_of_ble_eq_true rfl)) (fun r8 M9 hw => zz_kA hw (fun x12 hw => ?_)) (fun _ _ _ h9 => h9.elim) rfl
  refine zz_astore_n (i := 1) (lv' := [(1, va_rf x12), (0, va_rf this)]) C dX1_sheet_18 rfl (by decide) (by simp [zz_cat, zz_catI, zz_catJ, zz_catD]) ?_
  refine zz_subP [1, 0] rfl ?_
  obtain ⟨n19, hw⟩ := hw
  exact ok_X1_sheet_L19 C E hH hR n19 _ _ _ _ _ hw
abbrev cX4_print_2 : ByteArray := prog_25_method_70_code
def yX4_print_2 : MethodName := ⟨"DebateHallModel", "print", "(I)V"⟩
def dkwX4_print_2_0 : List UInt8 := [42, 180, 0, 31, 42, 180, 1, 75, 27, 79, 42, 89, 180, 1, 75, 4, 96, 181, 1, 75, 177]
abbrev dktX4_print_2_0 : List UInt8 := dkwX4_print_2_0 ++ []
theorem dksX4_print_2_0 : cX4_print_2.data.toList.drop 0 = dktX4_print_2_0 := by decide +kernel
theorem dX4_print_2_0 : decode cX4_print_2 0 = .ok (.aload_n 0, 1) := dk_42 (dk_at dksX4_print_2_0 0 rfl rfl)
theorem dX4_print_2_1 : decode cX4_print_2 1 = .ok (.getfield 31, 3) := dk_180 0 31 (dk_at dksX4_print_2_0 1 rfl rfl)
theorem dX4_print_2_4 : decode cX4_print_2 4 = .ok (.aload_n 0, 1) := dk_42 (dk_at dksX4_print_2_0 4 rfl rfl)
theorem dX4_print_2_5 : decode cX4_print_2 5 = .ok (.getfield 331, 3) := dk_180 1 75 (dk_at dksX4_print_2_0 5 rfl rfl)
theorem dX4_print_2_8 : decode cX4_print_2 8 = .ok (.iload_n 1, 1) := dk_27 (dk_at dksX4_print_2_0 8 rfl rfl)
theorem dX4_print_2_9 : decode cX4_print_2 9 = .ok (.iastore, 1) := dk_79 (dk_at dksX4_print_2_0 9 rfl rfl)
theorem dX4_print_2_10 : decode cX4_print_2 10 = .ok (.aload_n 0, 1) := dk_42 (dk_at dksX4_print_2_0 10 rfl rfl)
theorem dX4_print_2_11 : decode cX4_print_2 11 = .ok (.dup, 1) := dk_89 (dk_at dksX4_print_2_0 11 rfl rfl)
theorem dX4_print_2_12 : decode cX4_print_2 12 = .ok (.getfield 331, 3) := dk_180 1 75 (dk_at dksX4_print_2_0 12 rfl rfl)
theorem dX4_print_2_15 : decode cX4_print_2 15 = .ok (.iconst 1, 1) := dk_4 (dk_at dksX4_print_2_0 15 rfl rfl)
theorem dX4_print_2_16 : decode cX4_print_2 16 = .ok (.iadd, 1) := dk_96 (dk_at dksX4_print_2_0 16 rfl rfl)
theorem dX4_print_2_17 : decode cX4_print_2 17 = .ok (.putfield 331, 3) := dk_181 1 75 (dk_at dksX4_print_2_0 17 rfl rfl)
theorem dX4_print_2_20 : decode cX4_print_2 20 = .ok (.return_, 1) := dk_177 (dk_at dksX4_print_2_0 20 rfl rfl)
theorem zp_16_4 : zz_pok [16] 4 := zz_pok1 (zR_16, zT_16, 24) (by decide) rfl rfl
def wp_X4_print_2 (Z : zzG) (this : Option Nat) (p0 : Int32) (M : zzM) (K : Option Value → zzM → Prop) : Prop := zgA Z M this [16] 5 fun x1 => zgI Z M this [16] 4 fun x2 => zast Z M x1 [100] x2 (.int p0) fun M3 => zgI Z M3 this [16] 4 fun x4 => zput Z M3 this [16] 4 (.int (x4 + (1 : Int32))) fun M5 => K none M5
theorem ok_X4_print_2 {Z : zzG} {l : Launch} (hl : l.stackTraces = false) {this : Option Nat} {p0 : Int32} {M : zzM} {mc ms : Nat} {K : Option Value → zzM → Prop} (hw : wp_X4_print_2 Z this p0 M K) : zz_Met Z l yX4_print_2 (zz_ws yX4_print_2 cX4_print_2 2 none none) 1 [va_rf this, .int p0] M mc ms K (fun _ _ _ => False) := by
  refine zz_ofW hl (plainFor_of_name (by decide)) (by simp only [zz_sl0, zz_slI, zz_slJ, zz_slA] <;> decide) (fun G hZ hll C E hH hR hin => ?_)
  subst hZ
  subst hll
  rw [show lv_args 0 [va_rf this, .int p0] = [(0, va_rf this), (1, .int p0)] by simp only [zz_la0, zz_laI, zz_laJ, zz_laA]]
  unfold wp_X4_print_2 at hw
  refine zz_aload_n C dX4_print_2_0 rfl 0 rfl ?_
  refine zz_getA C dX4_print_2_1 (Or.inl q2441) zf_16_5_ebateHallModel hw (fun x1 hw => ?_)
  refine zz_aload_n C dX4_print_2_4 rfl 0 rfl ?_
  refine zz_getI C dX4_print_2_5 (Or.inl q2440) zf_16_4_ebateHallModel hw (fun x2 hw => ?_)
  refine zz_iload_n C dX4_print_2_8 rfl 1 rfl ?_
  refine zz_iast C dX4_print_2_9 hw (fun M3 hw => ?_)
  refine zz_aload_n C dX4_print_2_10 rfl 0 rfl ?_
  refine zz_dup C dX4_print_2_11 (zz_cat _) ?_
  refine zz_getI C dX4_print_2_12 (Or.inl q2440) zf_16_4_ebateHallModel hw (fun x4 hw => ?_)
  refine zz_iconst (v := (1 : Int32)) C dX4_print_2_15 (by decide) ?_
  refine zz_iadd C dX4_print_2_16 ?_
  refine zz_put C dX4_print_2_17 (Or.inl q2440) zf_16_4_ebateHallModel zp_16_4 (zz_hn1 ⟨rfl, rfl⟩) hw (fun M5 hw => ?_)
  exact zz_vret C E dX4_print_2_20 hw
abbrev cX4_print : ByteArray := prog_25_method_71_code
def yX4_print : MethodName := ⟨"DebateHallModel", "print", "(J)V"⟩
def dkwX4_print_1 : List UInt8 := [155, 0, 21, 42, 31, 29, 123, 20, 1, 116, 127, 136, 182, 1, 118, 132, 3, 248, 167, 255, 237, 177]
abbrev dktX4_print_1 : List UInt8 := dkwX4_print_1 ++ []
def dkwX4_print_0 : List UInt8 := [16, 56, 62, 31, 29, 123, 20, 1, 116, 127, 9, 148, 154, 0, 9, 132, 3, 248, 167, 255, 241, 29]
abbrev dktX4_print_0 : List UInt8 := dkwX4_print_0 ++ dktX4_print_1
theorem dksX4_print_0 : cX4_print.data.toList.drop 0 = dktX4_print_0 := by decide +kernel
theorem dksX4_print_1 : cX4_print.data.toList.drop 22 = dktX4_print_1 := dk_seg dksX4_print_0 22 rfl rfl
theorem dX4_print_0 : decode cX4_print 0 = .ok (.bipush 56, 2) := dk_16 56 (dk_at dksX4_print_0 0 rfl rfl)
theorem dX4_print_2 : decode cX4_print 2 = .ok (.istore_n 3, 1) := dk_62 (dk_at dksX4_print_0 2 rfl rfl)
theorem dX4_print_3 : decode cX4_print 3 = .ok (.lload_n 1, 1) := dk_31 (dk_at dksX4_print_0 3 rfl rfl)
theorem dX4_print_4 : decode cX4_print 4 = .ok (.iload_n 3, 1) := dk_29 (dk_at dksX4_print_0 4 rfl rfl)
theorem dX4_print_5 : decode cX4_print 5 = .ok (.lshr, 1) := dk_123 (dk_at dksX4_print_0 5 rfl rfl)
theorem dX4_print_6 : decode cX4_print 6 = .ok (.ldc2_w 372, 3) := dk_20 1 116 (dk_at dksX4_print_0 6 rfl rfl)
theorem dX4_print_9 : decode cX4_print 9 = .ok (.land, 1) := dk_127 (dk_at dksX4_print_0 9 rfl rfl)
theorem dX4_print_10 : decode cX4_print 10 = .ok (.lconst 0, 1) := dk_9 (dk_at dksX4_print_0 10 rfl rfl)
theorem dX4_print_11 : decode cX4_print 11 = .ok (.lcmp, 1) := dk_148 (dk_at dksX4_print_0 11 rfl rfl)
theorem dX4_print_12 : decode cX4_print 12 = .ok (.ifCond .ne 9, 3) := dk_154 0 9 (dk_at dksX4_print_0 12 rfl rfl)
theorem dX4_print_15 : decode cX4_print 15 = .ok (.iinc 3 (-8), 3) := dk_132 3 248 (dk_at dksX4_print_0 15 rfl rfl)
theorem dX4_print_18 : decode cX4_print 18 = .ok (.goto (-15), 3) := dk_167 255 241 (dk_at dksX4_print_0 18 rfl rfl)
theorem dX4_print_21 : decode cX4_print 21 = .ok (.iload_n 3, 1) := dk_29 (dk_at dksX4_print_0 21 rfl rfl)
theorem dX4_print_22 : decode cX4_print 22 = .ok (.ifCond .lt 21, 3) := dk_155 0 21 (dk_at dksX4_print_1 0 rfl rfl)
theorem dX4_print_25 : decode cX4_print 25 = .ok (.aload_n 0, 1) := dk_42 (dk_at dksX4_print_1 3 rfl rfl)
theorem dX4_print_26 : decode cX4_print 26 = .ok (.lload_n 1, 1) := dk_31 (dk_at dksX4_print_1 4 rfl rfl)
theorem dX4_print_27 : decode cX4_print 27 = .ok (.iload_n 3, 1) := dk_29 (dk_at dksX4_print_1 5 rfl rfl)
theorem dX4_print_28 : decode cX4_print 28 = .ok (.lshr, 1) := dk_123 (dk_at dksX4_print_1 6 rfl rfl)
theorem dX4_print_29 : decode cX4_print 29 = .ok (.ldc2_w 372, 3) := dk_20 1 116 (dk_at dksX4_print_1 7 rfl rfl)
theorem dX4_print_32 : decode cX4_print 32 = .ok (.land, 1) := dk_127 (dk_at dksX4_print_1 10 rfl rfl)
theorem dX4_print_33 : decode cX4_print 33 = .ok (.l2i, 1) := dk_136 (dk_at dksX4_print_1 11 rfl rfl)
theorem dX4_print_34 : decode cX4_print 34 = .ok (.invokevirtual 374, 3) := dk_182 1 118 (dk_at dksX4_print_1 12 rfl rfl)
theorem dX4_print_37 : decode cX4_print 37 = .ok (.iinc 3 (-8), 3) := dk_132 3 248 (dk_at dksX4_print_1 15 rfl rfl)
theorem dX4_print_40 : decode cX4_print 40 = .ok (.goto (-19), 3) := dk_167 255 237 (dk_at dksX4_print_1 18 rfl rfl)
theorem dX4_print_43 : decode cX4_print 43 = .ok (.return_, 1) := dk_177 (dk_at dksX4_print_1 21 rfl rfl)
theorem q2842 : (Jvm.Cond.constantLong "DebateHallModel" (372 : Nat) (255 : Int64)) ∈ lw_all := lw_g (lw_at lw_m12 122 rfl) rfl
theorem q2846 : (Jvm.Cond.code ({ cls := "DebateHallModel", name := "print", desc := "(I)V" } : Jvm.MethodName) prog_25_method_70_code (2 : Nat) (Option.none : Option Jvm.ClassFile.FieldType)) ∈ lw_all := lw_g (lw_at lw_m12 126 rfl) rfl
theorem zk_X4_print_2 : zz_cd yX4_print_2 cX4_print_2 2 none none ∈ lw_all := q2846
theorem zy_X4_print_2 : zz_yok yX4_print_2 1 = true := by decide +kernel
theorem q2843 : (Jvm.Cond.methodLink "DebateHallModel" (374 : Nat) ({ cls := "DebateHallModel", name := "print", desc := "(I)V" } : Jvm.MethodName)) ∈ lw_all := lw_g (lw_at lw_m12 123 rfl) rfl
theorem q2845 : (Jvm.Cond.instanceMethod ({ cls := "DebateHallModel", name := "print", desc := "(I)V" } : Jvm.MethodName)) ∈ lw_all := lw_g (lw_at lw_m12 125 rfl) rfl
def wp_X4_print_L21 (Z : zzG) (K : Option Value → zzM → Prop) : Nat → Option Nat → Int64 → Int32 → zzM → Prop
  | 0, _, _, _, _ => False
  | n + 1, v0, v1, v3, M => if v3 < 0 then (K none M) else (zty Z M v0 fun t => t = 16 ∧ wp_X4_print_2 Z v0 (((v1 >>> (v3.toInt64 &&& 63)) &&& (255 : Int64)).toInt32) M (fun r1 M2 => zrV r1 (wp_X4_print_L21 Z K n v0 v1 (v3 + (-8)) M2)))
def wp_X4_print_L3 (Z : zzG) (K : Option Value → zzM → Prop) : Nat → Option Nat → Int64 → Int32 → zzM → Prop
  | 0, _, _, _, _ => False
  | n + 1, v0, v1, v3, M => if (lg_cmp ((v1 >>> (v3.toInt64 &&& 63)) &&& (255 : Int64)) (0 : Int64)) = 0 then (wp_X4_print_L3 Z K n v0 v1 (v3 + (-8)) M) else (∃ n21 : Nat, wp_X4_print_L21 Z K n21 v0 v1 v3 M)
def wp_X4_print (Z : zzG) (this : Option Nat) (p0 : Int64) (M : zzM) (K : Option Value → zzM → Prop) : Prop := ∃ n3 : Nat, wp_X4_print_L3 Z K n3 this p0 (56 : Int32) M
theorem ok_X4_print_L21 {G : zzX} (C : zz_C G cX4_print "DebateHallModel" 4) {K : Option Value → zzM → Prop} (E : zz_E G none K (fun _ _ _ => False)) (hH : zz_H G []) (hR : zz_Rm G 2) : ∀ (n : Nat) (v0 : Option Nat) (v1 : Int64) (v3 : Int32) (M : zzM) (bc bs : Nat), wp_X4_print_L21 (zz_Zof G) K n v0 v1 v3 M → zz_T G 4 M bc bs 21 [(0, va_rf v0), (1, .long v1), (3, .int v3)] [] := by
  intro n
  induction n with
  | zero =>
    intro v0 v1 v3 M bc bs hw
    exact False.elim hw
  | succ n ih =>
    intro v0 v1 v3 M bc bs hw
    refine zz_iload_n C dX4_print_21 rfl 2 rfl ?_
    refine zz_if_lt (tgt := 43) C dX4_print_22 (by decide) hw (fun hw => ?_) (fun hw => ?_)
    · exact zz_vret C E dX4_print_43 hw
    · refine zz_aload_n C dX4_print_25 rfl 0 rfl ?_
      refine zz_lload_n C dX4_print_26 rfl 1 rfl ?_
      refine zz_iload_n C dX4_print_27 rfl 2 rfl ?_
      refine zz_lshr C dX4_print_28 rfl ?_
      refine zz_ldc2 C dX4_print_29 q2842 ?_
      refine zz_land C dX4_print_32 ?_
      refine zz_l2i C dX4_print_33 ?_
      obtain ⟨a9, t9, b9, fs9, hro, hL, rfl, hw⟩ := ztyS hw
      refine zz_callV (r := (zR_16, zT_16, 24)) (As := [.int (((v1 >>> (v3.toInt64 &&& 63)) &&& (255 : Int64)).toInt32)]) (rest := []) (mc := 0) (ms := 0) C hR hro dX4_print_34 (Or.inl q2843) q2845 (Or.inl qs79) zl_DebateHallModel zk_X4_print_2 (Or.inl rfl) zy_X4_print_2 rfl (by decide) (by decide) hL (ok_X4_print_2 (zz_hl C) hw) (Nat.zero_le _) (Nat.zero_le _) (zz_cat10 _ (Nat.le_of_ble_eq_true rfl)) (fun r1 M2 hw => zz_kV hw (fun hw => ?_)) (fun _ _ _ h9 => h9.elim) rfl
      refine zz_iinc (lv' := [(3, .int (v3 + (-8))), (0, va_rf v0), (1, .long v1)]) C dX4_print_37 2 rfl (by rfl) (by decide) rfl ?_
      refine zz_goto (tgt := 21) C dX4_print_40 (by decide) ?_
      refine zz_subP [1, 2, 0] rfl ?_
      exact ih _ _ _ _ _ _ hw
theorem ok_X4_print_L3 {G : zzX} (C : zz_C G cX4_print "DebateHallModel" 4) {K : Option Value → zzM → Prop} (E : zz_E G none K (fun _ _ _ => False)) (hH : zz_H G []) (hR : zz_Rm G 2) : ∀ (n : Nat) (v0 : Option Nat) (v1 : Int64) (v3 : Int32) (M : zzM) (bc bs : Nat), wp_X4_print_L3 (zz_Zof G) K n v0 v1 v3 M → zz_T G 4 M bc bs 3 [(0, va_rf v0), (1, .long v1), (3, .int v3)] [] := by
  intro n
  induction n with
  | zero =>
    intro v0 v1 v3 M bc bs hw
    exact False.elim hw
  | succ n ih =>
    intro v0 v1 v3 M bc bs hw
    refine zz_lload_n C dX4_print_3 rfl 1 rfl ?_
    refine zz_iload_n C dX4_print_4 rfl 2 rfl ?_
    refine zz_lshr C dX4_print_5 rfl ?_
    refine zz_ldc2 C dX4_print_6 q2842 ?_
    refine zz_land C dX4_print_9 ?_
    refine zz_lconst (v := (0 : Int64)) C dX4_print_10 (by decide) ?_
    refine zz_lcmp C dX4_print_11 ?_
    refine zz_if_ne (tgt := 21) C dX4_print_12 (by decide) hw (fun hw => ?_) (fun hw => ?_)
    · refine zz_subP [0, 1, 2] rfl ?_
      obtain ⟨n21, hw⟩ := hw
      exact ok_X4_print_L21 C E hH hR n21 _ _ _ _ _ _ hw
    · refine zz_iinc (lv' := [(3, .int (v3 + (-8))), (0, va_rf v0), (1, .long v1)]) C dX4_print_15 2 rfl (by rfl) (by decide) rfl ?_
      refine zz_goto (tgt := 3) C dX4_print_18 (by decide) ?_
      refine zz_subP [1, 2, 0] rfl ?_
      exact ih _ _ _ _ _ _ hw
theorem ok_X4_print {Z : zzG} {l : Launch} (hl : l.stackTraces = false) {this : Option Nat} {p0 : Int64} {M : zzM} {mc ms : Nat} {K : Option Value → zzM → Prop} (hw : wp_X4_print Z this p0 M K) : zz_Met Z l yX4_print (zz_ws yX4_print cX4_print 4 none none) 2 [va_rf this, .long p0] M mc ms K (fun _ _ _ => False) := by
  refine zz_ofW hl (plainFor_of_name (by decide)) (by simp only [zz_sl0, zz_slI, zz_slJ, zz_slA] <;> decide) (fun G hZ hll C E hH hR hin => ?_)
  subst hZ
  subst hll
  rw [show lv_args 0 [va_rf this, .long p0] = [(0, va_rf this), (1, .long p0)] by simp only [zz_la0, zz_laI, zz_laJ, zz_laA]]
  unfold wp_X4_print at hw
  refine zz_bipush (v := (56 : Int32)) C dX4_print_0 (by decide) ?_
  refine zz_istore_n (i := 3) (lv' := [(3, .int (56 : Int32)), (0, va_rf this), (1, .long p0)]) C dX4_print_2 rfl (by decide) rfl ?_
  refine zz_subP [1, 2, 0] rfl ?_
  obtain ⟨n3, hw⟩ := hw
  exact ok_X4_print_L3 C E hH hR n3 _ _ _ _ _ _ hw
abbrev cJ7_isLatin1 : ByteArray := prog_46_method_154_code
def yJ7_isLatin1 : MethodName := ⟨"java/lang/String", "isLatin1", "()Z"⟩
def dkwJ7_isLatin1_0 : List UInt8 := [178, 0, 38, 153, 0, 14, 42, 180, 0, 15, 154, 0, 7, 4, 167, 0, 4, 3, 172]
abbrev dktJ7_isLatin1_0 : List UInt8 := dkwJ7_isLatin1_0 ++ []
theorem dksJ7_isLatin1_0 : cJ7_isLatin1.data.toList.drop 0 = dktJ7_isLatin1_0 := by decide +kernel
theorem dJ7_isLatin1_0 : decode cJ7_isLatin1 0 = .ok (.getstatic 38, 3) := dk_178 0 38 (dk_at dksJ7_isLatin1_0 0 rfl rfl)
theorem dJ7_isLatin1_3 : decode cJ7_isLatin1 3 = .ok (.ifCond .eq 14, 3) := dk_153 0 14 (dk_at dksJ7_isLatin1_0 3 rfl rfl)
theorem dJ7_isLatin1_6 : decode cJ7_isLatin1 6 = .ok (.aload_n 0, 1) := dk_42 (dk_at dksJ7_isLatin1_0 6 rfl rfl)
theorem dJ7_isLatin1_7 : decode cJ7_isLatin1 7 = .ok (.getfield 15, 3) := dk_180 0 15 (dk_at dksJ7_isLatin1_0 7 rfl rfl)
theorem dJ7_isLatin1_10 : decode cJ7_isLatin1 10 = .ok (.ifCond .ne 7, 3) := dk_154 0 7 (dk_at dksJ7_isLatin1_0 10 rfl rfl)
theorem dJ7_isLatin1_13 : decode cJ7_isLatin1 13 = .ok (.iconst 1, 1) := dk_4 (dk_at dksJ7_isLatin1_0 13 rfl rfl)
theorem dJ7_isLatin1_14 : decode cJ7_isLatin1 14 = .ok (.goto 4, 3) := dk_167 0 4 (dk_at dksJ7_isLatin1_0 14 rfl rfl)
theorem dJ7_isLatin1_17 : decode cJ7_isLatin1 17 = .ok (.iconst 0, 1) := dk_3 (dk_at dksJ7_isLatin1_0 17 rfl rfl)
theorem dJ7_isLatin1_18 : decode cJ7_isLatin1 18 = .ok (.ireturn, 1) := dk_172 (dk_at dksJ7_isLatin1_0 18 rfl rfl)
def wp_J7_isLatin1_B18 (Z : zzG) (K : Option Value → zzM → Prop) (s0 : Int32) (M : zzM) : Prop := narrow .boolean (.int s0) = .int s0 ∧ K (some (.int s0)) M
def wp_J7_isLatin1_B17 (Z : zzG) (K : Option Value → zzM → Prop) (M : zzM) : Prop := wp_J7_isLatin1_B18 Z K (0 : Int32) M
def wp_J7_isLatin1 (Z : zzG) (this : Option Nat) (M : zzM) (K : Option Value → zzM → Prop) : Prop := if (1 : Int32) = 0 then (wp_J7_isLatin1_B17 Z K M) else (zgI Z M this [21] 1 fun x1 => if x1 = 0 then (wp_J7_isLatin1_B18 Z K (1 : Int32) M) else (wp_J7_isLatin1_B17 Z K M))
theorem ok_J7_isLatin1_B18 {G : zzX} (C : zz_C G cJ7_isLatin1 "java/lang/String" 1) {K : Option Value → zzM → Prop} (E : zz_E G (some .boolean) K (fun _ _ _ => False)) (hH : zz_H G []) (hR : zz_Rm G 1) {s0 : Int32} {M : zzM} {bc bs : Nat} (hw : wp_J7_isLatin1_B18 (zz_Zof G) K s0 M) : zz_T G 1 M bc bs 18 [] [.int s0] := by
  unfold wp_J7_isLatin1_B18 at hw
  exact zz_zret C E dJ7_isLatin1_18 hw
theorem ok_J7_isLatin1_B17 {G : zzX} (C : zz_C G cJ7_isLatin1 "java/lang/String" 1) {K : Option Value → zzM → Prop} (E : zz_E G (some .boolean) K (fun _ _ _ => False)) (hH : zz_H G []) (hR : zz_Rm G 1) {M : zzM} {bc bs : Nat} (hw : wp_J7_isLatin1_B17 (zz_Zof G) K M) : zz_T G 1 M bc bs 17 [] [] := by
  unfold wp_J7_isLatin1_B17 at hw
  refine zz_iconst (v := (0 : Int32)) C dJ7_isLatin1_17 (by decide) ?_
  refine zz_subP [] rfl ?_
  exact ok_J7_isLatin1_B18 C E hH hR hw
theorem ok_J7_isLatin1 {Z : zzG} {l : Launch} (hl : l.stackTraces = false) {this : Option Nat} {M : zzM} {mc ms : Nat} {K : Option Value → zzM → Prop} (hw : wp_J7_isLatin1 Z this M K) : zz_Met Z l yJ7_isLatin1 (zz_ws yJ7_isLatin1 cJ7_isLatin1 1 (some .boolean) none) 1 [va_rf this] M mc ms K (fun _ _ _ => False) := by
  refine zz_ofW hl (plainFor_of_name (by decide)) (by simp only [zz_sl0, zz_slI, zz_slJ, zz_slA] <;> decide) (fun G hZ hll C E hH hR hin => ?_)
  subst hZ
  subst hll
  rw [show lv_args 0 [va_rf this] = [(0, va_rf this)] by simp only [zz_la0, zz_laI, zz_laJ, zz_laA]]
  unfold wp_J7_isLatin1 at hw
  refine zz_gets (j := 14) (v := .int (1 : Int32)) C dJ7_isLatin1_0 (Or.inl q634) rfl (Or.inl rfl) rfl ?_
  refine zz_if_eq (tgt := 17) C dJ7_isLatin1_3 (by decide) hw (fun hw => ?_) (fun hw => ?_)
  · refine zz_subP [] rfl ?_
    exact ok_J7_isLatin1_B17 C E hH hR hw
  · refine zz_aload_n C dJ7_isLatin1_6 rfl 0 rfl ?_
    refine zz_getI C dJ7_isLatin1_7 (Or.inl q690) zf_21_1_va_lang_String hw (fun x1 hw => ?_)
    refine zz_if_ne (tgt := 17) C dJ7_isLatin1_10 (by decide) hw (fun hw => ?_) (fun hw => ?_)
    · refine zz_subP [] rfl ?_
      exact ok_J7_isLatin1_B17 C E hH hR hw
    · refine zz_iconst (v := (1 : Int32)) C dJ7_isLatin1_13 (by decide) ?_
      refine zz_goto (tgt := 18) C dJ7_isLatin1_14 (by decide) ?_
      refine zz_subP [] rfl ?_
      exact ok_J7_isLatin1_B18 C E hH hR hw
abbrev cJ18_charAt : ByteArray := prog_49_method_2_code
def yJ18_charAt : MethodName := ⟨"java/lang/StringLatin1", "charAt", "([BI)C"⟩
def dkwJ18_charAt_0 : List UInt8 := [27, 42, 190, 184, 0, 9, 42, 27, 51, 17, 0, 255, 126, 146, 172]
abbrev dktJ18_charAt_0 : List UInt8 := dkwJ18_charAt_0 ++ []
theorem dksJ18_charAt_0 : cJ18_charAt.data.toList.drop 0 = dktJ18_charAt_0 := by decide +kernel
theorem dJ18_charAt_0 : decode cJ18_charAt 0 = .ok (.iload_n 1, 1) := dk_27 (dk_at dksJ18_charAt_0 0 rfl rfl)
theorem dJ18_charAt_1 : decode cJ18_charAt 1 = .ok (.aload_n 0, 1) := dk_42 (dk_at dksJ18_charAt_0 1 rfl rfl)
theorem dJ18_charAt_2 : decode cJ18_charAt 2 = .ok (.arraylength, 1) := dk_190 (dk_at dksJ18_charAt_0 2 rfl rfl)
theorem dJ18_charAt_3 : decode cJ18_charAt 3 = .ok (.invokestatic 9, 3) := dk_184 0 9 (dk_at dksJ18_charAt_0 3 rfl rfl)
theorem dJ18_charAt_6 : decode cJ18_charAt 6 = .ok (.aload_n 0, 1) := dk_42 (dk_at dksJ18_charAt_0 6 rfl rfl)
theorem dJ18_charAt_7 : decode cJ18_charAt 7 = .ok (.iload_n 1, 1) := dk_27 (dk_at dksJ18_charAt_0 7 rfl rfl)
theorem dJ18_charAt_8 : decode cJ18_charAt 8 = .ok (.baload, 1) := dk_51 (dk_at dksJ18_charAt_0 8 rfl rfl)
theorem dJ18_charAt_9 : decode cJ18_charAt 9 = .ok (.sipush 255, 3) := dk_17 0 255 (dk_at dksJ18_charAt_0 9 rfl rfl)
theorem dJ18_charAt_12 : decode cJ18_charAt 12 = .ok (.iand, 1) := dk_126 (dk_at dksJ18_charAt_0 12 rfl rfl)
theorem dJ18_charAt_13 : decode cJ18_charAt 13 = .ok (.i2c, 1) := dk_146 (dk_at dksJ18_charAt_0 13 rfl rfl)
theorem dJ18_charAt_14 : decode cJ18_charAt 14 = .ok (.ireturn, 1) := dk_172 (dk_at dksJ18_charAt_0 14 rfl rfl)
theorem q1846 : (Jvm.Cond.methodLink "java/lang/StringLatin1" (9 : Nat) ({ cls := "java/lang/String", name := "checkIndex", desc := "(II)V" } : Jvm.MethodName)) ∈ lw_all := lw_g (lw_at lw_m8 86 rfl) rfl
def wp_J18_charAt (Z : zzG) (p0 : Option Nat) (p1 : Int32) (M : zzM) (K : Option Value → zzM → Prop) : Prop := zlen Z M p0 fun x1 => wp_J7_checkIndex Z p1 x1 M (fun r2 M3 => zrV r2 (zaI Z M3 p0 [101] p1 fun x6 => narrow .char (.int (((x6 &&& (255 : Int32)).toUInt32 % 65536).toInt32)) = .int (((x6 &&& (255 : Int32)).toUInt32 % 65536).toInt32) ∧ K (some (.int (((x6 &&& (255 : Int32)).toUInt32 % 65536).toInt32))) M3))
theorem ok_J18_charAt {Z : zzG} {l : Launch} (hl : l.stackTraces = false) {p0 : Option Nat} {p1 : Int32} {M : zzM} {mc ms : Nat} {K : Option Value → zzM → Prop} (hw : wp_J18_charAt Z p0 p1 M K) : zz_Met Z l yJ18_charAt (zz_ws yJ18_charAt cJ18_charAt 2 (some .char) none) 3 [va_rf p0, .int p1] M mc ms K (fun _ _ _ => False) := by
  refine zz_ofW hl (plainFor_of_name (by decide)) (by simp only [zz_sl0, zz_slI, zz_slJ, zz_slA] <;> decide) (fun G hZ hll C E hH hR hin => ?_)
  subst hZ
  subst hll
  rw [show lv_args 0 [va_rf p0, .int p1] = [(0, va_rf p0), (1, .int p1)] by simp only [zz_la0, zz_laI, zz_laJ, zz_laA]]
  unfold wp_J18_charAt at hw
  refine zz_iload_n C dJ18_charAt_0 rfl 1 rfl ?_
  refine zz_aload_n C dJ18_charAt_1 rfl 0 rfl ?_
  refine zz_alen C dJ18_charAt_2 hw (fun x1 hw => ?_)
  refine zz_callS (As := [.int p1, .int x1]) (rest := []) (mc := 0) (ms := 0) C hR dJ18_charAt_3 (Or.inl q1846) q490 zl_java_lang_String zk_J7_checkIndex (Or.inl rfl) zy_J7_checkIndex (by decide) (by decide) (ok_J7_checkIndex (zz_hl C) hw) (Nat.zero_le _) (Nat.zero_le _) (zz_cat10 _ (Nat.le_of_ble_eq_true rfl)) (fun r2 M3 hw => zz_kV hw (fun hw => ?_)) (fun _ _ _ h9 => h9.elim) rfl
  refine zz_aload_n C dJ18_charAt_6 rfl 0 rfl ?_
  refine zz_iload_n C dJ18_charAt_7 rfl 1 rfl ?_
  refine zz_bald C dJ18_charAt_8 hw (fun x6 hw => ?_)
  refine zz_sipush (v := (255 : Int32)) C dJ18_charAt_9 (by decide) ?_
  refine zz_iand C dJ18_charAt_12 ?_
  refine zz_i2c C dJ18_charAt_13 ?_
  exact zz_zret C E dJ18_charAt_14 hw
abbrev cJ7_charAt : ByteArray := prog_46_method_56_code
def yJ7_charAt : MethodName := ⟨"java/lang/String", "charAt", "(I)C"⟩
def dkwJ7_charAt_1 : List UInt8 := [172]
abbrev dktJ7_charAt_1 : List UInt8 := dkwJ7_charAt_1 ++ []
def dkwJ7_charAt_0 : List UInt8 := [42, 182, 1, 236, 153, 0, 12, 42, 180, 0, 9, 27, 184, 1, 239, 172, 42, 180, 0, 9, 27, 184, 1, 242]
abbrev dktJ7_charAt_0 : List UInt8 := dkwJ7_charAt_0 ++ dktJ7_charAt_1
theorem dksJ7_charAt_0 : cJ7_charAt.data.toList.drop 0 = dktJ7_charAt_0 := by decide +kernel
theorem dksJ7_charAt_1 : cJ7_charAt.data.toList.drop 24 = dktJ7_charAt_1 := dk_seg dksJ7_charAt_0 24 rfl rfl
theorem dJ7_charAt_0 : decode cJ7_charAt 0 = .ok (.aload_n 0, 1) := dk_42 (dk_at dksJ7_charAt_0 0 rfl rfl)
theorem dJ7_charAt_1 : decode cJ7_charAt 1 = .ok (.invokevirtual 492, 3) := dk_182 1 236 (dk_at dksJ7_charAt_0 1 rfl rfl)
theorem dJ7_charAt_4 : decode cJ7_charAt 4 = .ok (.ifCond .eq 12, 3) := dk_153 0 12 (dk_at dksJ7_charAt_0 4 rfl rfl)
theorem dJ7_charAt_7 : decode cJ7_charAt 7 = .ok (.aload_n 0, 1) := dk_42 (dk_at dksJ7_charAt_0 7 rfl rfl)
theorem dJ7_charAt_8 : decode cJ7_charAt 8 = .ok (.getfield 9, 3) := dk_180 0 9 (dk_at dksJ7_charAt_0 8 rfl rfl)
theorem dJ7_charAt_11 : decode cJ7_charAt 11 = .ok (.iload_n 1, 1) := dk_27 (dk_at dksJ7_charAt_0 11 rfl rfl)
theorem dJ7_charAt_12 : decode cJ7_charAt 12 = .ok (.invokestatic 495, 3) := dk_184 1 239 (dk_at dksJ7_charAt_0 12 rfl rfl)
theorem dJ7_charAt_15 : decode cJ7_charAt 15 = .ok (.ireturn, 1) := dk_172 (dk_at dksJ7_charAt_0 15 rfl rfl)
theorem dJ7_charAt_16 : decode cJ7_charAt 16 = .ok (.aload_n 0, 1) := dk_42 (dk_at dksJ7_charAt_0 16 rfl rfl)
theorem dJ7_charAt_17 : decode cJ7_charAt 17 = .ok (.getfield 9, 3) := dk_180 0 9 (dk_at dksJ7_charAt_0 17 rfl rfl)
theorem dJ7_charAt_20 : decode cJ7_charAt 20 = .ok (.iload_n 1, 1) := dk_27 (dk_at dksJ7_charAt_0 20 rfl rfl)
theorem dJ7_charAt_21 : decode cJ7_charAt 21 = .ok (.invokestatic 498, 3) := dk_184 1 242 (dk_at dksJ7_charAt_0 21 rfl rfl)
theorem q734 : (Jvm.Cond.code ({ cls := "java/lang/String", name := "isLatin1", desc := "()Z" } : Jvm.MethodName) prog_46_method_154_code (1 : Nat) (Option.some Jvm.ClassFile.FieldType.boolean)) ∈ lw_all := lw_g (lw_at lw_m3 174 rfl) rfl
theorem zk_J7_isLatin1 : zz_cd yJ7_isLatin1 cJ7_isLatin1 1 (some .boolean) none ∈ lw_all := q734
theorem zy_J7_isLatin1 : zz_yok yJ7_isLatin1 0 = true := by decide +kernel
theorem q1845 : (Jvm.Cond.code ({ cls := "java/lang/StringLatin1", name := "charAt", desc := "([BI)C" } : Jvm.MethodName) prog_49_method_2_code (2 : Nat) (Option.some Jvm.ClassFile.FieldType.char)) ∈ lw_all := lw_g (lw_at lw_m8 85 rfl) rfl
theorem zk_J18_charAt : zz_cd yJ18_charAt cJ18_charAt 2 (some .char) none ∈ lw_all := q1845
theorem zy_J18_charAt : zz_yok yJ18_charAt 2 = true := by decide +kernel
theorem q1843 : (Jvm.Cond.methodLink "java/lang/String" (495 : Nat) ({ cls := "java/lang/StringLatin1", name := "charAt", desc := "([BI)C" } : Jvm.MethodName)) ∈ lw_all := lw_g (lw_at lw_m8 83 rfl) rfl
theorem q1844 : (Jvm.Cond.static ({ cls := "java/lang/StringLatin1", name := "charAt", desc := "([BI)C" } : Jvm.MethodName)) ∈ lw_all := lw_g (lw_at lw_m8 84 rfl) rfl
theorem q731 : (Jvm.Cond.methodLink "java/lang/String" (492 : Nat) ({ cls := "java/lang/String", name := "isLatin1", desc := "()Z" } : Jvm.MethodName)) ∈ lw_all := lw_g (lw_at lw_m3 171 rfl) rfl
theorem q732 : (Jvm.Cond.instanceMethod ({ cls := "java/lang/String", name := "isLatin1", desc := "()Z" } : Jvm.MethodName)) ∈ lw_all := lw_g (lw_at lw_m3 172 rfl) rfl
theorem q733 : (Jvm.Cond.selects "java/lang/String" ({ cls := "java/lang/String", name := "isLatin1", desc := "()Z" } : Jvm.MethodName) ({ cls := "java/lang/String", name := "isLatin1", desc := "()Z" } : Jvm.MethodName)) ∈ lw_all := lw_g (lw_at lw_m3 173 rfl) rfl
def wp_J7_charAt (Z : zzG) (this : Option Nat) (p0 : Int32) (M : zzM) (K : Option Value → zzM → Prop) : Prop := zty Z M this fun t => t = 21 ∧ wp_J7_isLatin1 Z this M (fun r1 M2 => zrI r1 fun x5 => if x5 = 0 then (zgA Z M2 this [21] 0 fun x6 => False) else (zgA Z M2 this [21] 0 fun x7 => wp_J18_charAt Z x7 p0 M2 (fun r8 M9 => zrI r8 fun x12 => narrow .char (.int x12) = .int x12 ∧ K (some (.int x12)) M9)))
theorem ok_J7_charAt {Z : zzG} {l : Launch} (hl : l.stackTraces = false) {this : Option Nat} {p0 : Int32} {M : zzM} {mc ms : Nat} {K : Option Value → zzM → Prop} (hw : wp_J7_charAt Z this p0 M K) : zz_Met Z l yJ7_charAt (zz_ws yJ7_charAt cJ7_charAt 2 (some .char) none) 4 [va_rf this, .int p0] M mc ms K (fun _ _ _ => False) := by
  refine zz_ofW hl (plainFor_of_name (by decide)) (by simp only [zz_sl0, zz_slI, zz_slJ, zz_slA] <;> decide) (fun G hZ hll C E hH hR hin => ?_)
  subst hZ
  subst hll
  rw [show lv_args 0 [va_rf this, .int p0] = [(0, va_rf this), (1, .int p0)] by simp only [zz_la0, zz_laI, zz_laJ, zz_laA]]
  unfold wp_J7_charAt at hw
  refine zz_aload_n C dJ7_charAt_0 rfl 0 rfl ?_
  obtain ⟨a9, t9, b9, fs9, hro, hL, rfl, hw⟩ := ztyS hw
  refine zz_callV (r := (zR_21, zT_21, 4)) (As := []) (rest := []) (mc := 0) (ms := 0) C hR hro dJ7_charAt_1 (Or.inl q731) q732 (Or.inl q733) zl_java_lang_String zk_J7_isLatin1 (Or.inl rfl) zy_J7_isLatin1 rfl (by decide) (by decide) hL (ok_J7_isLatin1 (zz_hl C) hw) (Nat.zero_le _) (Nat.zero_le _) (zz_cat10 _ (Nat.le_of_ble_eq_true rfl)) (fun r1 M2 hw => zz_kI hw (fun x5 hw => ?_)) (fun _ _ _ h9 => h9.elim) rfl
  refine zz_if_eq (tgt := 16) C dJ7_charAt_4 (by decide) hw (fun hw => ?_) (fun hw => ?_)
  · refine zz_aload_n C dJ7_charAt_16 rfl 0 rfl ?_
    refine zz_getA C dJ7_charAt_17 (Or.inl q689) zf_21_0_va_lang_String hw (fun x6 hw => ?_)
    refine zz_iload_n C dJ7_charAt_20 rfl 1 rfl ?_
    exact hw.elim
  · refine zz_aload_n C dJ7_charAt_7 rfl 0 rfl ?_
    refine zz_getA C dJ7_charAt_8 (Or.inl q689) zf_21_0_va_lang_String hw (fun x7 hw => ?_)
    refine zz_iload_n C dJ7_charAt_11 rfl 1 rfl ?_
    refine zz_callS (As := [va_rf x7, .int p0]) (rest := []) (mc := 0) (ms := 0) C hR dJ7_charAt_12 (Or.inl q1843) q1844 zl_java_lang_StringLatin1 zk_J18_charAt (Or.inl rfl) zy_J18_charAt (by decide) (by decide) (ok_J18_charAt (zz_hl C) hw) (Nat.zero_le _) (Nat.zero_le _) (zz_cat10 _ (Nat.le_of_ble_eq_true rfl)) (fun r8 M9 hw => zz_kI hw (fun x12 hw => ?_)) (fun _ _ _ h9 => h9.elim) rfl
    exact zz_zret C E dJ7_charAt_15 hw
abbrev cX4_packed : ByteArray := prog_25_method_1_code
def yX4_packed : MethodName := ⟨"DebateHallModel", "packed", "(Ljava/lang/String;)J"⟩
def dkwX4_packed_1 : List UInt8 := [132, 3, 1, 167, 255, 233, 31, 173]
abbrev dktX4_packed_1 : List UInt8 := dkwX4_packed_1 ++ []
def dkwX4_packed_0 : List UInt8 := [9, 64, 3, 62, 29, 42, 182, 0, 1, 162, 0, 21, 31, 16, 8, 121, 42, 29, 182, 0, 7, 133, 129, 64]
abbrev dktX4_packed_0 : List UInt8 := dkwX4_packed_0 ++ dktX4_packed_1
theorem dksX4_packed_0 : cX4_packed.data.toList.drop 0 = dktX4_packed_0 := by decide +kernel
theorem dksX4_packed_1 : cX4_packed.data.toList.drop 24 = dktX4_packed_1 := dk_seg dksX4_packed_0 24 rfl rfl
theorem dX4_packed_0 : decode cX4_packed 0 = .ok (.lconst 0, 1) := dk_9 (dk_at dksX4_packed_0 0 rfl rfl)
theorem dX4_packed_1 : decode cX4_packed 1 = .ok (.lstore_n 1, 1) := dk_64 (dk_at dksX4_packed_0 1 rfl rfl)
theorem dX4_packed_2 : decode cX4_packed 2 = .ok (.iconst 0, 1) := dk_3 (dk_at dksX4_packed_0 2 rfl rfl)
theorem dX4_packed_3 : decode cX4_packed 3 = .ok (.istore_n 3, 1) := dk_62 (dk_at dksX4_packed_0 3 rfl rfl)
theorem dX4_packed_4 : decode cX4_packed 4 = .ok (.iload_n 3, 1) := dk_29 (dk_at dksX4_packed_0 4 rfl rfl)
theorem dX4_packed_5 : decode cX4_packed 5 = .ok (.aload_n 0, 1) := dk_42 (dk_at dksX4_packed_0 5 rfl rfl)
theorem dX4_packed_6 : decode cX4_packed 6 = .ok (.invokevirtual 1, 3) := dk_182 0 1 (dk_at dksX4_packed_0 6 rfl rfl)
theorem dX4_packed_9 : decode cX4_packed 9 = .ok (.if_icmp .ge 21, 3) := dk_162 0 21 (dk_at dksX4_packed_0 9 rfl rfl)
theorem dX4_packed_12 : decode cX4_packed 12 = .ok (.lload_n 1, 1) := dk_31 (dk_at dksX4_packed_0 12 rfl rfl)
theorem dX4_packed_13 : decode cX4_packed 13 = .ok (.bipush 8, 2) := dk_16 8 (dk_at dksX4_packed_0 13 rfl rfl)
theorem dX4_packed_15 : decode cX4_packed 15 = .ok (.lshl, 1) := dk_121 (dk_at dksX4_packed_0 15 rfl rfl)
theorem dX4_packed_16 : decode cX4_packed 16 = .ok (.aload_n 0, 1) := dk_42 (dk_at dksX4_packed_0 16 rfl rfl)
theorem dX4_packed_17 : decode cX4_packed 17 = .ok (.iload_n 3, 1) := dk_29 (dk_at dksX4_packed_0 17 rfl rfl)
theorem dX4_packed_18 : decode cX4_packed 18 = .ok (.invokevirtual 7, 3) := dk_182 0 7 (dk_at dksX4_packed_0 18 rfl rfl)
theorem dX4_packed_21 : decode cX4_packed 21 = .ok (.i2l, 1) := dk_133 (dk_at dksX4_packed_0 21 rfl rfl)
theorem dX4_packed_22 : decode cX4_packed 22 = .ok (.lor, 1) := dk_129 (dk_at dksX4_packed_0 22 rfl rfl)
theorem dX4_packed_23 : decode cX4_packed 23 = .ok (.lstore_n 1, 1) := dk_64 (dk_at dksX4_packed_0 23 rfl rfl)
theorem dX4_packed_24 : decode cX4_packed 24 = .ok (.iinc 3 1, 3) := dk_132 3 1 (dk_at dksX4_packed_1 0 rfl rfl)
theorem dX4_packed_27 : decode cX4_packed 27 = .ok (.goto (-23), 3) := dk_167 255 233 (dk_at dksX4_packed_1 3 rfl rfl)
theorem dX4_packed_30 : decode cX4_packed 30 = .ok (.lload_n 1, 1) := dk_31 (dk_at dksX4_packed_1 6 rfl rfl)
theorem dX4_packed_31 : decode cX4_packed 31 = .ok (.lreturn, 1) := dk_173 (dk_at dksX4_packed_1 7 rfl rfl)
theorem q1842 : (Jvm.Cond.code ({ cls := "java/lang/String", name := "charAt", desc := "(I)C" } : Jvm.MethodName) prog_46_method_56_code (2 : Nat) (Option.some Jvm.ClassFile.FieldType.char)) ∈ lw_all := lw_g (lw_at lw_m8 82 rfl) rfl
theorem zk_J7_charAt : zz_cd yJ7_charAt cJ7_charAt 2 (some .char) none ∈ lw_all := q1842
theorem zy_J7_charAt : zz_yok yJ7_charAt 1 = true := by decide +kernel
theorem q2572 : (Jvm.Cond.methodLink "DebateHallModel" (7 : Nat) ({ cls := "java/lang/String", name := "charAt", desc := "(I)C" } : Jvm.MethodName)) ∈ lw_all := lw_g (lw_at lw_m11 92 rfl) rfl
theorem q1840 : (Jvm.Cond.instanceMethod ({ cls := "java/lang/String", name := "charAt", desc := "(I)C" } : Jvm.MethodName)) ∈ lw_all := lw_g (lw_at lw_m8 80 rfl) rfl
theorem q1841 : (Jvm.Cond.selects "java/lang/String" ({ cls := "java/lang/String", name := "charAt", desc := "(I)C" } : Jvm.MethodName) ({ cls := "java/lang/String", name := "charAt", desc := "(I)C" } : Jvm.MethodName)) ∈ lw_all := lw_g (lw_at lw_m8 81 rfl) rfl
theorem q2571 : (Jvm.Cond.methodLink "DebateHallModel" (1 : Nat) ({ cls := "java/lang/String", name := "length", desc := "()I" } : Jvm.MethodName)) ∈ lw_all := lw_g (lw_at lw_m11 91 rfl) rfl
def wp_X4_packed_L4 (Z : zzG) (K : Option Value → zzM → Prop) : Nat → Option Nat → Int64 → Int32 → zzM → Prop
  | 0, _, _, _, _ => False
  | n + 1, v0, v1, v3, M => zty Z M v0 fun t => t = 21 ∧ wp_J7_length Z v0 M (fun r1 M2 => zrI r1 fun x5 => if x5 ≤ v3 then (K (some (.long v1)) M2) else (zty Z M2 v0 fun t => t = 21 ∧ wp_J7_charAt Z v0 v3 M2 (fun r6 M7 => zrI r6 fun x10 => wp_X4_packed_L4 Z K n v0 ((v1 <<< ((8 : Int32).toInt64 &&& 63)) ||| x10.toInt64) (v3 + 1) M7)))
def wp_X4_packed (Z : zzG) (p0 : Option Nat) (M : zzM) (K : Option Value → zzM → Prop) : Prop := ∃ n4 : Nat, wp_X4_packed_L4 Z K n4 p0 (0 : Int64) (0 : Int32) M
theorem ok_X4_packed_L4 {G : zzX} (C : zz_C G cX4_packed "DebateHallModel" 4) {K : Option Value → zzM → Prop} (E : zz_E G (some .long) K (fun _ _ _ => False)) (hH : zz_H G []) (hR : zz_Rm G 5) : ∀ (n : Nat) (v0 : Option Nat) (v1 : Int64) (v3 : Int32) (M : zzM) (bc bs : Nat), wp_X4_packed_L4 (zz_Zof G) K n v0 v1 v3 M → zz_T G 4 M bc bs 4 [(0, va_rf v0), (1, .long v1), (3, .int v3)] [] := by
  intro n
  induction n with
  | zero =>
    intro v0 v1 v3 M bc bs hw
    exact False.elim hw
  | succ n ih =>
    intro v0 v1 v3 M bc bs hw
    refine zz_iload_n C dX4_packed_4 rfl 2 rfl ?_
    refine zz_aload_n C dX4_packed_5 rfl 0 rfl ?_
    obtain ⟨a9, t9, b9, fs9, hro, hL, rfl, hw⟩ := ztyS hw
    refine zz_callV (r := (zR_21, zT_21, 4)) (As := []) (rest := [.int v3]) (mc := 0) (ms := 0) C hR hro dX4_packed_6 (Or.inl q2571) q627 (Or.inl q628) zl_java_lang_String zk_J7_length (Or.inl rfl) zy_J7_length rfl (by decide) (by decide) hL (ok_J7_length (zz_hl C) hw) (Nat.zero_le _) (Nat.zero_le _) (zz_cat10 _ (Nat.le_of_ble_eq_true rfl)) (fun r1 M2 hw => zz_kI hw (fun x5 hw => ?_)) (fun _ _ _ h9 => h9.elim) rfl
    refine zz_icmp_ge (tgt := 30) C dX4_packed_9 (by decide) hw (fun hw => ?_) (fun hw => ?_)
    · refine zz_lload_n C dX4_packed_30 rfl 1 rfl ?_
      exact zz_lret C E dX4_packed_31 hw
    · refine zz_lload_n C dX4_packed_12 rfl 1 rfl ?_
      refine zz_bipush (v := (8 : Int32)) C dX4_packed_13 (by decide) ?_
      refine zz_lshl C dX4_packed_15 rfl ?_
      refine zz_aload_n C dX4_packed_16 rfl 0 rfl ?_
      refine zz_iload_n C dX4_packed_17 rfl 2 rfl ?_
      obtain ⟨a9, t9, b9, fs9, hro, hL, rfl, hw⟩ := ztyS hw
      refine zz_callV (r := (zR_21, zT_21, 4)) (As := [.int v3]) (rest := [.long (v1 <<< ((8 : Int32).toInt64 &&& 63))]) (mc := 0) (ms := 0) C hR hro dX4_packed_18 (Or.inl q2572) q1840 (Or.inl q1841) zl_java_lang_String zk_J7_charAt (Or.inl rfl) zy_J7_charAt rfl (by decide) (by decide) hL (ok_J7_charAt (zz_hl C) hw) (Nat.zero_le _) (Nat.zero_le _) (zz_cat10 _ (Nat.le_of_ble_eq_true rfl)) (fun r6 M7 hw => zz_kI hw (fun x10 hw => ?_)) (fun _ _ _ h9 => h9.elim) rfl
      refine zz_i2l C dX4_packed_21 ?_
      refine zz_lor C dX4_packed_22 ?_
      refine zz_lstore_n (i := 1) (lv' := [(1, .long ((v1 <<< ((8 : Int32).toInt64 &&& 63)) ||| x10.toInt64)), (0, va_rf v0), (3, .int v3)]) C dX4_packed_23 rfl (by decide) (by simp [zz_cat, zz_catI, zz_catJ, zz_catD]) ?_
      refine zz_iinc (lv' := [(3, .int (v3 + 1)), (1, .long ((v1 <<< ((8 : Int32).toInt64 &&& 63)) ||| x10.toInt64)), (0, va_rf v0)]) C dX4_packed_24 2 rfl (by rfl) (by decide) rfl ?_
      refine zz_goto (tgt := 4) C dX4_packed_27 (by decide) ?_
      refine zz_subP [2, 1, 0] rfl ?_
      exact ih _ _ _ _ _ _ hw
theorem ok_X4_packed {Z : zzG} {l : Launch} (hl : l.stackTraces = false) {p0 : Option Nat} {M : zzM} {mc ms : Nat} {K : Option Value → zzM → Prop} (hw : wp_X4_packed Z p0 M K) : zz_Met Z l yX4_packed (zz_ws yX4_packed cX4_packed 4 (some .long) none) 5 [va_rf p0] M mc ms K (fun _ _ _ => False) := by
  refine zz_ofW hl (plainFor_of_name (by decide)) (by simp only [zz_sl0, zz_slI, zz_slJ, zz_slA] <;> decide) (fun G hZ hll C E hH hR hin => ?_)
  subst hZ
  subst hll
  rw [show lv_args 0 [va_rf p0] = [(0, va_rf p0)] by simp only [zz_la0, zz_laI, zz_laJ, zz_laA]]
  unfold wp_X4_packed at hw
  refine zz_lconst (v := (0 : Int64)) C dX4_packed_0 (by decide) ?_
  refine zz_lstore_n (i := 1) (lv' := [(1, .long (0 : Int64)), (0, va_rf p0)]) C dX4_packed_1 rfl (by decide) (by simp [zz_cat, zz_catI, zz_catJ, zz_catD]) ?_
  refine zz_iconst (v := (0 : Int32)) C dX4_packed_2 (by decide) ?_
  refine zz_istore_n (i := 3) (lv' := [(3, .int (0 : Int32)), (1, .long (0 : Int64)), (0, va_rf p0)]) C dX4_packed_3 rfl (by decide) rfl ?_
  refine zz_subP [2, 1, 0] rfl ?_
  obtain ⟨n4, hw⟩ := hw
  exact ok_X4_packed_L4 C E hH hR n4 _ _ _ _ _ _ hw
abbrev cX4_sheet : ByteArray := prog_25_method_72_code
def yX4_sheet : MethodName := ⟨"DebateHallModel", "sheet", "()I"⟩
def dkwX4_sheet_5 : List UInt8 := [167, 255, 151, 42, 180, 1, 75, 172]
abbrev dktX4_sheet_5 : List UInt8 := dkwX4_sheet_5 ++ []
def dkwX4_sheet_4 : List UInt8 := [18, 247, 167, 0, 5, 18, 249, 184, 0, 171, 182, 1, 124, 42, 16, 10, 182, 1, 118, 132, 1, 1]
abbrev dktX4_sheet_4 : List UInt8 := dkwX4_sheet_4 ++ dktX4_sheet_5
def dkwX4_sheet_3 : List UInt8 := [180, 0, 55, 27, 46, 4, 160, 0, 8, 18, 245, 167, 0, 20, 42, 180, 0, 55, 27, 46, 5, 160, 0, 8]
abbrev dktX4_sheet_3 : List UInt8 := dkwX4_sheet_3 ++ dktX4_sheet_4
def dkwX4_sheet_2 : List UInt8 := [180, 1, 8, 42, 180, 0, 48, 180, 0, 121, 27, 46, 47, 182, 1, 124, 42, 16, 32, 182, 1, 118, 42, 42]
abbrev dktX4_sheet_2 : List UInt8 := dkwX4_sheet_2 ++ dktX4_sheet_3
def dkwX4_sheet_1 : List UInt8 := [42, 180, 0, 48, 180, 1, 122, 27, 47, 182, 1, 124, 42, 16, 32, 182, 1, 118, 42, 42, 180, 0, 48]
abbrev dktX4_sheet_1 : List UInt8 := dkwX4_sheet_1 ++ dktX4_sheet_2
def dkwX4_sheet_0 : List UInt8 := [42, 3, 181, 0, 85, 42, 3, 181, 1, 75, 3, 60, 27, 42, 180, 0, 48, 180, 0, 95, 162, 0, 100, 42]
abbrev dktX4_sheet_0 : List UInt8 := dkwX4_sheet_0 ++ dktX4_sheet_1
theorem dksX4_sheet_0 : cX4_sheet.data.toList.drop 0 = dktX4_sheet_0 := by decide +kernel
theorem dksX4_sheet_1 : cX4_sheet.data.toList.drop 24 = dktX4_sheet_1 := dk_seg dksX4_sheet_0 24 rfl rfl
theorem dksX4_sheet_2 : cX4_sheet.data.toList.drop 47 = dktX4_sheet_2 := dk_seg dksX4_sheet_1 23 rfl rfl
theorem dksX4_sheet_3 : cX4_sheet.data.toList.drop 71 = dktX4_sheet_3 := dk_seg dksX4_sheet_2 24 rfl rfl
theorem dksX4_sheet_4 : cX4_sheet.data.toList.drop 95 = dktX4_sheet_4 := dk_seg dksX4_sheet_3 24 rfl rfl
theorem dksX4_sheet_5 : cX4_sheet.data.toList.drop 117 = dktX4_sheet_5 := dk_seg dksX4_sheet_4 22 rfl rfl
theorem dX4_sheet_0 : decode cX4_sheet 0 = .ok (.aload_n 0, 1) := dk_42 (dk_at dksX4_sheet_0 0 rfl rfl)
theorem dX4_sheet_1 : decode cX4_sheet 1 = .ok (.iconst 0, 1) := dk_3 (dk_at dksX4_sheet_0 1 rfl rfl)
theorem dX4_sheet_2 : decode cX4_sheet 2 = .ok (.putfield 85, 3) := dk_181 0 85 (dk_at dksX4_sheet_0 2 rfl rfl)
theorem dX4_sheet_5 : decode cX4_sheet 5 = .ok (.aload_n 0, 1) := dk_42 (dk_at dksX4_sheet_0 5 rfl rfl)
theorem dX4_sheet_6 : decode cX4_sheet 6 = .ok (.iconst 0, 1) := dk_3 (dk_at dksX4_sheet_0 6 rfl rfl)
theorem dX4_sheet_7 : decode cX4_sheet 7 = .ok (.putfield 331, 3) := dk_181 1 75 (dk_at dksX4_sheet_0 7 rfl rfl)
theorem dX4_sheet_10 : decode cX4_sheet 10 = .ok (.iconst 0, 1) := dk_3 (dk_at dksX4_sheet_0 10 rfl rfl)
theorem dX4_sheet_11 : decode cX4_sheet 11 = .ok (.istore_n 1, 1) := dk_60 (dk_at dksX4_sheet_0 11 rfl rfl)
theorem dX4_sheet_12 : decode cX4_sheet 12 = .ok (.iload_n 1, 1) := dk_27 (dk_at dksX4_sheet_0 12 rfl rfl)
theorem dX4_sheet_13 : decode cX4_sheet 13 = .ok (.aload_n 0, 1) := dk_42 (dk_at dksX4_sheet_0 13 rfl rfl)
theorem dX4_sheet_14 : decode cX4_sheet 14 = .ok (.getfield 48, 3) := dk_180 0 48 (dk_at dksX4_sheet_0 14 rfl rfl)
theorem dX4_sheet_17 : decode cX4_sheet 17 = .ok (.getfield 95, 3) := dk_180 0 95 (dk_at dksX4_sheet_0 17 rfl rfl)
theorem dX4_sheet_20 : decode cX4_sheet 20 = .ok (.if_icmp .ge 100, 3) := dk_162 0 100 (dk_at dksX4_sheet_0 20 rfl rfl)
theorem dX4_sheet_23 : decode cX4_sheet 23 = .ok (.aload_n 0, 1) := dk_42 (dk_at dksX4_sheet_0 23 rfl rfl)
theorem dX4_sheet_24 : decode cX4_sheet 24 = .ok (.aload_n 0, 1) := dk_42 (dk_at dksX4_sheet_1 0 rfl rfl)
theorem dX4_sheet_25 : decode cX4_sheet 25 = .ok (.getfield 48, 3) := dk_180 0 48 (dk_at dksX4_sheet_1 1 rfl rfl)
theorem dX4_sheet_28 : decode cX4_sheet 28 = .ok (.getfield 378, 3) := dk_180 1 122 (dk_at dksX4_sheet_1 4 rfl rfl)
theorem dX4_sheet_31 : decode cX4_sheet 31 = .ok (.iload_n 1, 1) := dk_27 (dk_at dksX4_sheet_1 7 rfl rfl)
theorem dX4_sheet_32 : decode cX4_sheet 32 = .ok (.laload, 1) := dk_47 (dk_at dksX4_sheet_1 8 rfl rfl)
theorem dX4_sheet_33 : decode cX4_sheet 33 = .ok (.invokevirtual 380, 3) := dk_182 1 124 (dk_at dksX4_sheet_1 9 rfl rfl)
theorem dX4_sheet_36 : decode cX4_sheet 36 = .ok (.aload_n 0, 1) := dk_42 (dk_at dksX4_sheet_1 12 rfl rfl)
theorem dX4_sheet_37 : decode cX4_sheet 37 = .ok (.bipush 32, 2) := dk_16 32 (dk_at dksX4_sheet_1 13 rfl rfl)
theorem dX4_sheet_39 : decode cX4_sheet 39 = .ok (.invokevirtual 374, 3) := dk_182 1 118 (dk_at dksX4_sheet_1 15 rfl rfl)
theorem dX4_sheet_42 : decode cX4_sheet 42 = .ok (.aload_n 0, 1) := dk_42 (dk_at dksX4_sheet_1 18 rfl rfl)
theorem dX4_sheet_43 : decode cX4_sheet 43 = .ok (.aload_n 0, 1) := dk_42 (dk_at dksX4_sheet_1 19 rfl rfl)
theorem dX4_sheet_44 : decode cX4_sheet 44 = .ok (.getfield 48, 3) := dk_180 0 48 (dk_at dksX4_sheet_1 20 rfl rfl)
theorem dX4_sheet_47 : decode cX4_sheet 47 = .ok (.getfield 264, 3) := dk_180 1 8 (dk_at dksX4_sheet_2 0 rfl rfl)
theorem dX4_sheet_50 : decode cX4_sheet 50 = .ok (.aload_n 0, 1) := dk_42 (dk_at dksX4_sheet_2 3 rfl rfl)
theorem dX4_sheet_51 : decode cX4_sheet 51 = .ok (.getfield 48, 3) := dk_180 0 48 (dk_at dksX4_sheet_2 4 rfl rfl)
theorem dX4_sheet_54 : decode cX4_sheet 54 = .ok (.getfield 121, 3) := dk_180 0 121 (dk_at dksX4_sheet_2 7 rfl rfl)
theorem dX4_sheet_57 : decode cX4_sheet 57 = .ok (.iload_n 1, 1) := dk_27 (dk_at dksX4_sheet_2 10 rfl rfl)
theorem dX4_sheet_58 : decode cX4_sheet 58 = .ok (.iaload, 1) := dk_46 (dk_at dksX4_sheet_2 11 rfl rfl)
theorem dX4_sheet_59 : decode cX4_sheet 59 = .ok (.laload, 1) := dk_47 (dk_at dksX4_sheet_2 12 rfl rfl)
theorem dX4_sheet_60 : decode cX4_sheet 60 = .ok (.invokevirtual 380, 3) := dk_182 1 124 (dk_at dksX4_sheet_2 13 rfl rfl)
theorem dX4_sheet_63 : decode cX4_sheet 63 = .ok (.aload_n 0, 1) := dk_42 (dk_at dksX4_sheet_2 16 rfl rfl)
theorem dX4_sheet_64 : decode cX4_sheet 64 = .ok (.bipush 32, 2) := dk_16 32 (dk_at dksX4_sheet_2 17 rfl rfl)
theorem dX4_sheet_66 : decode cX4_sheet 66 = .ok (.invokevirtual 374, 3) := dk_182 1 118 (dk_at dksX4_sheet_2 19 rfl rfl)
theorem dX4_sheet_69 : decode cX4_sheet 69 = .ok (.aload_n 0, 1) := dk_42 (dk_at dksX4_sheet_2 22 rfl rfl)
theorem dX4_sheet_70 : decode cX4_sheet 70 = .ok (.aload_n 0, 1) := dk_42 (dk_at dksX4_sheet_2 23 rfl rfl)
theorem dX4_sheet_71 : decode cX4_sheet 71 = .ok (.getfield 55, 3) := dk_180 0 55 (dk_at dksX4_sheet_3 0 rfl rfl)
theorem dX4_sheet_74 : decode cX4_sheet 74 = .ok (.iload_n 1, 1) := dk_27 (dk_at dksX4_sheet_3 3 rfl rfl)
theorem dX4_sheet_75 : decode cX4_sheet 75 = .ok (.iaload, 1) := dk_46 (dk_at dksX4_sheet_3 4 rfl rfl)
theorem dX4_sheet_76 : decode cX4_sheet 76 = .ok (.iconst 1, 1) := dk_4 (dk_at dksX4_sheet_3 5 rfl rfl)
theorem dX4_sheet_77 : decode cX4_sheet 77 = .ok (.if_icmp .ne 8, 3) := dk_160 0 8 (dk_at dksX4_sheet_3 6 rfl rfl)
theorem dX4_sheet_80 : decode cX4_sheet 80 = .ok (.ldc 245, 2) := dk_18 245 (dk_at dksX4_sheet_3 9 rfl rfl)
theorem dX4_sheet_82 : decode cX4_sheet 82 = .ok (.goto 20, 3) := dk_167 0 20 (dk_at dksX4_sheet_3 11 rfl rfl)
theorem dX4_sheet_85 : decode cX4_sheet 85 = .ok (.aload_n 0, 1) := dk_42 (dk_at dksX4_sheet_3 14 rfl rfl)
theorem dX4_sheet_86 : decode cX4_sheet 86 = .ok (.getfield 55, 3) := dk_180 0 55 (dk_at dksX4_sheet_3 15 rfl rfl)
theorem dX4_sheet_89 : decode cX4_sheet 89 = .ok (.iload_n 1, 1) := dk_27 (dk_at dksX4_sheet_3 18 rfl rfl)
theorem dX4_sheet_90 : decode cX4_sheet 90 = .ok (.iaload, 1) := dk_46 (dk_at dksX4_sheet_3 19 rfl rfl)
theorem dX4_sheet_91 : decode cX4_sheet 91 = .ok (.iconst 2, 1) := dk_5 (dk_at dksX4_sheet_3 20 rfl rfl)
theorem dX4_sheet_92 : decode cX4_sheet 92 = .ok (.if_icmp .ne 8, 3) := dk_160 0 8 (dk_at dksX4_sheet_3 21 rfl rfl)
theorem dX4_sheet_95 : decode cX4_sheet 95 = .ok (.ldc 247, 2) := dk_18 247 (dk_at dksX4_sheet_4 0 rfl rfl)
theorem dX4_sheet_97 : decode cX4_sheet 97 = .ok (.goto 5, 3) := dk_167 0 5 (dk_at dksX4_sheet_4 2 rfl rfl)
theorem dX4_sheet_100 : decode cX4_sheet 100 = .ok (.ldc 249, 2) := dk_18 249 (dk_at dksX4_sheet_4 5 rfl rfl)
theorem dX4_sheet_102 : decode cX4_sheet 102 = .ok (.invokestatic 171, 3) := dk_184 0 171 (dk_at dksX4_sheet_4 7 rfl rfl)
theorem dX4_sheet_105 : decode cX4_sheet 105 = .ok (.invokevirtual 380, 3) := dk_182 1 124 (dk_at dksX4_sheet_4 10 rfl rfl)
theorem dX4_sheet_108 : decode cX4_sheet 108 = .ok (.aload_n 0, 1) := dk_42 (dk_at dksX4_sheet_4 13 rfl rfl)
theorem dX4_sheet_109 : decode cX4_sheet 109 = .ok (.bipush 10, 2) := dk_16 10 (dk_at dksX4_sheet_4 14 rfl rfl)
theorem dX4_sheet_111 : decode cX4_sheet 111 = .ok (.invokevirtual 374, 3) := dk_182 1 118 (dk_at dksX4_sheet_4 16 rfl rfl)
theorem dX4_sheet_114 : decode cX4_sheet 114 = .ok (.iinc 1 1, 3) := dk_132 1 1 (dk_at dksX4_sheet_4 19 rfl rfl)
theorem dX4_sheet_117 : decode cX4_sheet 117 = .ok (.goto (-105), 3) := dk_167 255 151 (dk_at dksX4_sheet_5 0 rfl rfl)
theorem dX4_sheet_120 : decode cX4_sheet 120 = .ok (.aload_n 0, 1) := dk_42 (dk_at dksX4_sheet_5 3 rfl rfl)
theorem dX4_sheet_121 : decode cX4_sheet 121 = .ok (.getfield 331, 3) := dk_180 1 75 (dk_at dksX4_sheet_5 4 rfl rfl)
theorem dX4_sheet_124 : decode cX4_sheet 124 = .ok (.ireturn, 1) := dk_172 (dk_at dksX4_sheet_5 7 rfl rfl)
theorem q2396 : (Jvm.Cond.fieldLinkNest "DebateHallModel" (378 : Nat) "DebateHallModel$State" "name" "[J" "DebateHallModel") ∈ lw_tbl := lw_at lw_m10 156 rfl
theorem q2841 : (Jvm.Cond.code ({ cls := "DebateHallModel", name := "print", desc := "(J)V" } : Jvm.MethodName) prog_25_method_71_code (4 : Nat) (Option.none : Option Jvm.ClassFile.FieldType)) ∈ lw_all := lw_g (lw_at lw_m12 121 rfl) rfl
theorem zk_X4_print : zz_cd yX4_print cX4_print 4 none none ∈ lw_all := q2841
theorem zy_X4_print : zz_yok yX4_print 1 = true := by decide +kernel
theorem q2390 : (Jvm.Cond.fieldLinkNest "DebateHallModel" (264 : Nat) "DebateHallModel$State" "speaker" "[J" "DebateHallModel") ∈ lw_tbl := lw_at lw_m10 150 rfl
theorem q2838 : (Jvm.Cond.methodLink "DebateHallModel" (380 : Nat) ({ cls := "DebateHallModel", name := "print", desc := "(J)V" } : Jvm.MethodName)) ∈ lw_all := lw_g (lw_at lw_m12 118 rfl) rfl
theorem q2840 : (Jvm.Cond.instanceMethod ({ cls := "DebateHallModel", name := "print", desc := "(J)V" } : Jvm.MethodName)) ∈ lw_all := lw_g (lw_at lw_m12 120 rfl) rfl
theorem q2570 : (Jvm.Cond.code ({ cls := "DebateHallModel", name := "packed", desc := "(Ljava/lang/String;)J" } : Jvm.MethodName) prog_25_method_1_code (4 : Nat) (Option.some Jvm.ClassFile.FieldType.long)) ∈ lw_all := lw_g (lw_at lw_m11 90 rfl) rfl
theorem zk_X4_packed : zz_cd yX4_packed cX4_packed 4 (some .long) none ∈ lw_all := q2570
theorem zy_X4_packed : zz_yok yX4_packed 1 = true := by decide +kernel
theorem q2568 : (Jvm.Cond.methodLink "DebateHallModel" (171 : Nat) ({ cls := "DebateHallModel", name := "packed", desc := "(Ljava/lang/String;)J" } : Jvm.MethodName)) ∈ lw_all := lw_g (lw_at lw_m11 88 rfl) rfl
theorem q2569 : (Jvm.Cond.static ({ cls := "DebateHallModel", name := "packed", desc := "(Ljava/lang/String;)J" } : Jvm.MethodName)) ∈ lw_all := lw_g (lw_at lw_m11 89 rfl) rfl
def wp_X4_sheet_B102 (Z : zzG) (k12 : Option Nat → Int32 → zzM → Prop) (K : Option Value → zzM → Prop) (v0 : Option Nat) (v1 : Int32) (s0 : Option Nat) (s1 : Option Nat) (M : zzM) : Prop := wp_X4_packed Z s0 M (fun r35 M36 => zrJ r35 fun x39 => zty Z M36 s1 fun t => t = 16 ∧ wp_X4_print Z s1 x39 M36 (fun r40 M41 => zrV r40 (zty Z M41 v0 fun t => t = 16 ∧ wp_X4_print_2 Z v0 (10 : Int32) M41 (fun r44 M45 => zrV r44 (k12 v0 (v1 + 1) M45)))))
def wp_X4_sheet_L12 (Z : zzG) (K : Option Value → zzM → Prop) : Nat → Option Nat → Int32 → zzM → Prop
  | 0, _, _, _ => False
  | n + 1, v0, v1, M => zgA Z M v0 [16] 11 fun x3 => zgI Z M x3 [17] 3 fun x4 => if x4 ≤ v1 then (zgI Z M v0 [16] 4 fun x5 => K (some (.int x5)) M) else (zgA Z M v0 [16] 11 fun x6 => zgA Z M x6 [17] 4 fun x7 => zaJ Z M x7 [102] v1 fun x8 => zty Z M v0 fun t => t = 16 ∧ wp_X4_print Z v0 x8 M (fun r9 M10 => zrV r9 (zty Z M10 v0 fun t => t = 16 ∧ wp_X4_print_2 Z v0 (32 : Int32) M10 (fun r13 M14 => zrV r13 (zgA Z M14 v0 [16] 11 fun x17 => zgA Z M14 x17 [17] 1 fun x18 => zgA Z M14 v0 [16] 11 fun x19 => zgA Z M14 x19 [17] 6 fun x20 => zaI Z M14 x20 [100] v1 fun x21 => zaJ Z M14 x18 [102] x21 fun x22 => zty Z M14 v0 fun t => t = 16 ∧ wp_X4_print Z v0 x22 M14 (fun r23 M24 => zrV r23 (zty Z M24 v0 fun t => t = 16 ∧ wp_X4_print_2 Z v0 (32 : Int32) M24 (fun r27 M28 => zrV r27 (zgA Z M28 v0 [16] 13 fun x31 => zaI Z M28 x31 [100] v1 fun x32 => if x32 = (1 : Int32) then (wp_X4_sheet_B102 Z (wp_X4_sheet_L12 Z K n) K v0 v1 (some (zz_ad Z 145)) v0 M28) else (zgA Z M28 v0 [16] 13 fun x33 => zaI Z M28 x33 [100] v1 fun x34 => if x34 = (2 : Int32) then (wp_X4_sheet_B102 Z (wp_X4_sheet_L12 Z K n) K v0 v1 (some (zz_ad Z 162)) v0 M28) else (wp_X4_sheet_B102 Z (wp_X4_sheet_L12 Z K n) K v0 v1 (some (zz_ad Z 155)) v0 M28)))))))))))
def wp_X4_sheet (Z : zzG) (this : Option Nat) (M : zzM) (K : Option Value → zzM → Prop) : Prop := zput Z M this [16] 0 (.int (0 : Int32)) fun M1 => zput Z M1 this [16] 4 (.int (0 : Int32)) fun M2 => ∃ n12 : Nat, wp_X4_sheet_L12 Z K n12 this (0 : Int32) M2
theorem ok_X4_sheet_B102 {G : zzX} (C : zz_C G cX4_sheet "DebateHallModel" 2) {K : Option Value → zzM → Prop} (E : zz_E G (some .int) K (fun _ _ _ => False)) (hH : zz_H G []) (hR : zz_Rm G 6) {k12 : Option Nat → Int32 → zzM → Prop} (hk12 : ∀ (z0 : Option Nat) (z1 : Int32) (M : zzM) (bc bs : Nat), k12 z0 z1 M → zz_T G 2 M bc bs 12 [(0, va_rf z0), (1, .int z1)] []) {v0 : Option Nat} {v1 : Int32} {s0 : Option Nat} {s1 : Option Nat} {M : zzM} {bc bs : Nat} (hw : wp_X4_sheet_B102 (zz_Zof G) k12 K v0 v1 s0 s1 M) : zz_T G 2 M bc bs 102 [(0, va_rf v0), (1, .int v1)] [va_rf s0, va_rf s1] := by
  unfold wp_X4_sheet_B102 at hw
  refine zz_callS (As := [va_rf s0]) (rest := [va_rf s1]) (mc := 0) (ms := 0) C hR dX4_sheet_102 (Or.inl q2568) q2569 zl_DebateHallModel zk_X4_packed (Or.inl rfl) zy_X4_packed (by decide) (by decide) (ok_X4_packed (zz_hl C) hw) (Nat.zero_le _) (Nat.zero_le _) (zz_cat10 _ (Nat.le_of_ble_eq_true rfl)) (fun r35 M36 hw => zz_kJ hw (fun x39 hw => ?_)) (fun _ _ _ h9 => h9.elim) rfl
  obtain ⟨a9, t9, b9, fs9, hro, hL, rfl, hw⟩ := ztyS hw
  refine zz_callV (r := (zR_16, zT_16, 24)) (As := [.long x39]) (rest := []) (mc := 0) (ms := 0) C hR hro dX4_sheet_105 (Or.inl q2838) q2840 (Or.inl qs78) zl_DebateHallModel zk_X4_print (Or.inl rfl) zy_X4_print rfl (by decide) (by decide) hL (ok_X4_print (zz_hl C) hw) (Nat.zero_le _) (Nat.zero_le _) (zz_cat10 _ (Nat.le_of_ble_eq_true rfl)) (fun r40 M41 hw => zz_kV hw (fun hw => ?_)) (fun _ _ _ h9 => h9.elim) rfl
  refine zz_aload_n C dX4_sheet_108 rfl 0 rfl ?_
  refine zz_bipush (v := (10 : Int32)) C dX4_sheet_109 (by decide) ?_
  obtain ⟨a9, t9, b9, fs9, hro, hL, rfl, hw⟩ := ztyS hw
  refine zz_callV (r := (zR_16, zT_16, 24)) (As := [.int (10 : Int32)]) (rest := []) (mc := 0) (ms := 0) C hR hro dX4_sheet_111 (Or.inl q2843) q2845 (Or.inl qs79) zl_DebateHallModel zk_X4_print_2 (Or.inl rfl) zy_X4_print_2 rfl (by decide) (by decide) hL (ok_X4_print_2 (zz_hl C) hw) (Nat.zero_le _) (Nat.zero_le _) (zz_cat10 _ (Nat.le_of_ble_eq_true rfl)) (fun r44 M45 hw => zz_kV hw (fun hw => ?_)) (fun _ _ _ h9 => h9.elim) rfl
  refine zz_iinc (lv' := [(1, .int (v1 + 1)), (0, va_rf v0)]) C dX4_sheet_114 1 rfl (by rfl) (by decide) (by simp [zz_cat, zz_catI, zz_catJ, zz_catD]) ?_
  refine zz_goto (tgt := 12) C dX4_sheet_117 (by decide) ?_
  refine zz_subP [1, 0] rfl ?_
  exact hk12 _ _ _ _ _ hw
theorem ok_X4_sheet_L12 {G : zzX} (C : zz_C G cX4_sheet "DebateHallModel" 2) {K : Option Value → zzM → Prop} (E : zz_E G (some .int) K (fun _ _ _ => False)) (hH : zz_H G []) (hR : zz_Rm G 6) : ∀ (n : Nat) (v0 : Option Nat) (v1 : Int32) (M : zzM) (bc bs : Nat), wp_X4_sheet_L12 (zz_Zof G) K n v0 v1 M → zz_T G 2 M bc bs 12 [(0, va_rf v0), (1, .int v1)] [] := by
  intro n
  induction n with
  | zero =>
    intro v0 v1 M bc bs hw
    exact False.elim hw
  | succ n ih =>
    intro v0 v1 M bc bs hw
    refine zz_iload_n C dX4_sheet_12 rfl 1 rfl ?_
    refine zz_aload_n C dX4_sheet_13 rfl 0 rfl ?_
    refine zz_getA C dX4_sheet_14 (Or.inl q2447) zf_16_11_ebateHallModel hw (fun x3 hw => ?_)
    refine zz_getI C dX4_sheet_17 (Or.inr ⟨_, q2394⟩) zf_17_3_allModel_State hw (fun x4 hw => ?_)
    refine zz_icmp_ge (tgt := 120) C dX4_sheet_20 (by decide) hw (fun hw => ?_) (fun hw => ?_)
    · refine zz_aload_n C dX4_sheet_120 rfl 0 rfl ?_
      refine zz_getI C dX4_sheet_121 (Or.inl q2440) zf_16_4_ebateHallModel hw (fun x5 hw => ?_)
      exact zz_iret C E dX4_sheet_124 hw
    · refine zz_aload_n C dX4_sheet_23 rfl 0 rfl ?_
      refine zz_aload_n C dX4_sheet_24 rfl 0 rfl ?_
      refine zz_getA C dX4_sheet_25 (Or.inl q2447) zf_16_11_ebateHallModel hw (fun x6 hw => ?_)
      refine zz_getA C dX4_sheet_28 (Or.inr ⟨_, q2396⟩) zf_17_4_allModel_State hw (fun x7 hw => ?_)
      refine zz_iload_n C dX4_sheet_31 rfl 1 rfl ?_
      refine zz_lald C dX4_sheet_32 hw (fun x8 hw => ?_)
      obtain ⟨a9, t9, b9, fs9, hro, hL, rfl, hw⟩ := ztyS hw
      refine zz_callV (r := (zR_16, zT_16, 24)) (As := [.long x8]) (rest := []) (mc := 0) (ms := 0) C hR hro dX4_sheet_33 (Or.inl q2838) q2840 (Or.inl qs78) zl_DebateHallModel zk_X4_print (Or.inl rfl) zy_X4_print rfl (by decide) (by decide) hL (ok_X4_print (zz_hl C) hw) (Nat.zero_le _) (Nat.zero_le _) (zz_cat10 _ (Nat.le_of_ble_eq_true rfl)) (fun r9 M10 hw => zz_kV hw (fun hw => ?_)) (fun _ _ _ h9 => h9.elim) rfl
      refine zz_aload_n C dX4_sheet_36 rfl 0 rfl ?_
      refine zz_bipush (v := (32 : Int32)) C dX4_sheet_37 (by decide) ?_
      obtain ⟨a9, t9, b9, fs9, hro, hL, rfl, hw⟩ := ztyS hw
      refine zz_callV (r := (zR_16, zT_16, 24)) (As := [.int (32 : Int32)]) (rest := []) (mc := 0) (ms := 0) C hR hro dX4_sheet_39 (Or.inl q2843) q2845 (Or.inl qs79) zl_DebateHallModel zk_X4_print_2 (Or.inl rfl) zy_X4_print_2 rfl (by decide) (by decide) hL (ok_X4_print_2 (zz_hl C) hw) (Nat.zero_le _) (Nat.zero_le _) (zz_cat10 _ (Nat.le_of_ble_eq_true rfl)) (fun r13 M14 hw => zz_kV hw (fun hw => ?_)) (fun _ _ _ h9 => h9.elim) rfl
      refine zz_aload_n C dX4_sheet_42 rfl 0 rfl ?_
      refine zz_aload_n C dX4_sheet_43 rfl 0 rfl ?_
      refine zz_getA C dX4_sheet_44 (Or.inl q2447) zf_16_11_ebateHallModel hw (fun x17 hw => ?_)
      refine zz_getA C dX4_sheet_47 (Or.inr ⟨_, q2390⟩) zf_17_1_allModel_State hw (fun x18 hw => ?_)
      refine zz_aload_n C dX4_sheet_50 rfl 0 rfl ?_
      refine zz_getA C dX4_sheet_51 (Or.inl q2447) zf_16_11_ebateHallModel hw (fun x19 hw => ?_)
      refine zz_getA C dX4_sheet_54 (Or.inr ⟨_, q2400⟩) zf_17_6_allModel_State hw (fun x20 hw => ?_)
      refine zz_iload_n C dX4_sheet_57 rfl 1 rfl ?_
      refine zz_iald C dX4_sheet_58 hw (fun x21 hw => ?_)
      refine zz_lald C dX4_sheet_59 hw (fun x22 hw => ?_)
      obtain ⟨a9, t9, b9, fs9, hro, hL, rfl, hw⟩ := ztyS hw
      refine zz_callV (r := (zR_16, zT_16, 24)) (As := [.long x22]) (rest := []) (mc := 0) (ms := 0) C hR hro dX4_sheet_60 (Or.inl q2838) q2840 (Or.inl qs78) zl_DebateHallModel zk_X4_print (Or.inl rfl) zy_X4_print rfl (by decide) (by decide) hL (ok_X4_print (zz_hl C) hw) (Nat.zero_le _) (Nat.zero_le _) (zz_cat10 _ (Nat.le_of_ble_eq_true rfl)) (fun r23 M24 hw => zz_kV hw (fun hw => ?_)) (fun _ _ _ h9 => h9.elim) rfl
      refine zz_aload_n C dX4_sheet_63 rfl 0 rfl ?_
      refine zz_bipush (v := (32 : Int32)) C dX4_sheet_64 (by decide) ?_
      obtain ⟨a9, t9, b9, fs9, hro, hL, rfl, hw⟩ := ztyS hw
      refine zz_callV (r := (zR_16, zT_16, 24)) (As := [.int (32 : Int32)]) (rest := []) (mc := 0) (ms := 0) C hR hro dX4_sheet_66 (Or.inl q2843) q2845 (Or.inl qs79) zl_DebateHallModel zk_X4_print_2 (Or.inl rfl) zy_X4_print_2 rfl (by decide) (by decide) hL (ok_X4_print_2 (zz_hl C) hw) (Nat.zero_le _) (Nat.zero_le _) (zz_cat10 _ (Nat.le_of_ble_eq_true rfl)) (fun r27 M28 hw => zz_kV hw (fun hw => ?_)) (fun _ _ _ h9 => h9.elim) rfl
      refine zz_aload_n C dX4_sheet_69 rfl 0 rfl ?_
      refine zz_aload_n C dX4_sheet_70 rfl 0 rfl ?_
      refine zz_getA C dX4_sheet_71 (Or.inl q2449) zf_16_13_ebateHallModel hw (fun x31 hw => ?_)
      refine zz_iload_n C dX4_sheet_74 rfl 1 rfl ?_
      refine zz_iald C dX4_sheet_75 hw (fun x32 hw => ?_)
      refine zz_iconst (v := (1 : Int32)) C dX4_sheet_76 (by decide) ?_
      refine zz_icmp_ne (tgt := 85) C dX4_sheet_77 (by decide) hw (fun hw => ?_) (fun hw => ?_)
      · refine zz_aload_n C dX4_sheet_85 rfl 0 rfl ?_
        refine zz_getA C dX4_sheet_86 (Or.inl q2449) zf_16_13_ebateHallModel hw (fun x33 hw => ?_)
        refine zz_iload_n C dX4_sheet_89 rfl 1 rfl ?_
        refine zz_iald C dX4_sheet_90 hw (fun x34 hw => ?_)
        refine zz_iconst (v := (2 : Int32)) C dX4_sheet_91 (by decide) ?_
        refine zz_icmp_ne (tgt := 100) C dX4_sheet_92 (by decide) hw (fun hw => ?_) (fun hw => ?_)
        · refine zz_ldcS (j := 55) C dX4_sheet_100 rfl ?_
          refine zz_subP [0, 1] rfl ?_
          exact ok_X4_sheet_B102 C E hH hR (fun z0 z1 z2 z3 z4 hw => ih z0 z1 z2 z3 z4 hw) hw
        · refine zz_ldcS (j := 62) C dX4_sheet_95 rfl ?_
          refine zz_goto (tgt := 102) C dX4_sheet_97 (by decide) ?_
          refine zz_subP [0, 1] rfl ?_
          exact ok_X4_sheet_B102 C E hH hR (fun z0 z1 z2 z3 z4 hw => ih z0 z1 z2 z3 z4 hw) hw
      · refine zz_ldcS (j := 45) C dX4_sheet_80 rfl ?_
        refine zz_goto (tgt := 102) C dX4_sheet_82 (by decide) ?_
        refine zz_subP [0, 1] rfl ?_
        exact ok_X4_sheet_B102 C E hH hR (fun z0 z1 z2 z3 z4 hw => ih z0 z1 z2 z3 z4 hw) hw
theorem ok_X4_sheet {Z : zzG} {l : Launch} (hl : l.stackTraces = false) {this : Option Nat} {M : zzM} {mc ms : Nat} {K : Option Value → zzM → Prop} (hw : wp_X4_sheet Z this M K) : zz_Met Z l yX4_sheet (zz_ws yX4_sheet cX4_sheet 2 (some .int) none) 6 [va_rf this] M mc ms K (fun _ _ _ => False) := by
  refine zz_ofW hl (plainFor_of_name (by decide)) (by simp only [zz_sl0, zz_slI, zz_slJ, zz_slA] <;> decide) (fun G hZ hll C E hH hR hin => ?_)
  subst hZ
  subst hll
  rw [show lv_args 0 [va_rf this] = [(0, va_rf this)] by simp only [zz_la0, zz_laI, zz_laJ, zz_laA]]
  unfold wp_X4_sheet at hw
  refine zz_aload_n C dX4_sheet_0 rfl 0 rfl ?_
  refine zz_iconst (v := (0 : Int32)) C dX4_sheet_1 (by decide) ?_
  refine zz_put C dX4_sheet_2 (Or.inl q2436) zf_16_0_ebateHallModel zp_16_0 (zz_hn1 ⟨rfl, rfl⟩) hw (fun M1 hw => ?_)
  refine zz_aload_n C dX4_sheet_5 rfl 0 rfl ?_
  refine zz_iconst (v := (0 : Int32)) C dX4_sheet_6 (by decide) ?_
  refine zz_put C dX4_sheet_7 (Or.inl q2440) zf_16_4_ebateHallModel zp_16_4 (zz_hn1 ⟨rfl, rfl⟩) hw (fun M2 hw => ?_)
  refine zz_iconst (v := (0 : Int32)) C dX4_sheet_10 (by decide) ?_
  refine zz_istore_n (i := 1) (lv' := [(1, .int (0 : Int32)), (0, va_rf this)]) C dX4_sheet_11 rfl (by decide) (by simp [zz_cat, zz_catI, zz_catJ, zz_catD]) ?_
  refine zz_subP [1, 0] rfl ?_
  obtain ⟨n12, hw⟩ := hw
  exact ok_X4_sheet_L12 C E hH hR n12 _ _ _ _ _ hw
