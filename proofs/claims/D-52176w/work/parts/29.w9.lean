set_option maxRecDepth 100000
abbrev cX4_carryOut : ByteArray := prog_25_method_42_code
def yX4_carryOut : MethodName := ⟨"DebateHallModel", "carryOut", "()I"⟩
def dkwX4_carryOut_5 : List UInt8 := [180, 0, 168, 4, 96, 181, 0, 168, 167, 255, 141, 27, 172]
abbrev dktX4_carryOut_5 : List UInt8 := dkwX4_carryOut_5 ++ []
def dkwX4_carryOut_4 : List UInt8 := [167, 0, 22, 42, 42, 18, 218, 182, 0, 175, 153, 0, 7, 4, 167, 0, 4, 3, 182, 1, 53, 60, 42, 89]
abbrev dktX4_carryOut_4 : List UInt8 := dkwX4_carryOut_4 ++ dktX4_carryOut_5
def dkwX4_carryOut_3 : List UInt8 := [182, 1, 50, 60, 167, 0, 40, 42, 18, 214, 182, 0, 175, 153, 0, 12, 42, 5, 182, 1, 50, 60]
abbrev dktX4_carryOut_3 : List UInt8 := dkwX4_carryOut_3 ++ dktX4_carryOut_4
def dkwX4_carryOut_2 : List UInt8 := [153, 0, 11, 42, 182, 1, 47, 60, 167, 0, 58, 42, 18, 205, 182, 0, 175, 153, 0, 12, 42, 4]
abbrev dktX4_carryOut_2 : List UInt8 := dkwX4_carryOut_2 ++ dktX4_carryOut_3
def dkwX4_carryOut_1 : List UInt8 := [18, 187, 182, 0, 175, 153, 0, 11, 42, 182, 1, 44, 60, 167, 0, 75, 42, 18, 200, 182, 0, 175]
abbrev dktX4_carryOut_1 : List UInt8 := dkwX4_carryOut_1 ++ dktX4_carryOut_2
def dkwX4_carryOut_0 : List UInt8 := [42, 3, 181, 0, 168, 3, 60, 42, 180, 0, 34, 42, 180, 0, 168, 46, 153, 0, 109, 27, 154, 0, 105, 42]
abbrev dktX4_carryOut_0 : List UInt8 := dkwX4_carryOut_0 ++ dktX4_carryOut_1
theorem dksX4_carryOut_0 : cX4_carryOut.data.toList.drop 0 = dktX4_carryOut_0 := by decide +kernel
theorem dksX4_carryOut_1 : cX4_carryOut.data.toList.drop 24 = dktX4_carryOut_1 := dk_seg dksX4_carryOut_0 24 rfl rfl
theorem dksX4_carryOut_2 : cX4_carryOut.data.toList.drop 46 = dktX4_carryOut_2 := dk_seg dksX4_carryOut_1 22 rfl rfl
theorem dksX4_carryOut_3 : cX4_carryOut.data.toList.drop 68 = dktX4_carryOut_3 := dk_seg dksX4_carryOut_2 22 rfl rfl
theorem dksX4_carryOut_4 : cX4_carryOut.data.toList.drop 90 = dktX4_carryOut_4 := dk_seg dksX4_carryOut_3 22 rfl rfl
theorem dksX4_carryOut_5 : cX4_carryOut.data.toList.drop 114 = dktX4_carryOut_5 := dk_seg dksX4_carryOut_4 24 rfl rfl
theorem dX4_carryOut_0 : decode cX4_carryOut 0 = .ok (.aload_n 0, 1) := dk_42 (dk_at dksX4_carryOut_0 0 rfl rfl)
theorem dX4_carryOut_1 : decode cX4_carryOut 1 = .ok (.iconst 0, 1) := dk_3 (dk_at dksX4_carryOut_0 1 rfl rfl)
theorem dX4_carryOut_2 : decode cX4_carryOut 2 = .ok (.putfield 168, 3) := dk_181 0 168 (dk_at dksX4_carryOut_0 2 rfl rfl)
theorem dX4_carryOut_5 : decode cX4_carryOut 5 = .ok (.iconst 0, 1) := dk_3 (dk_at dksX4_carryOut_0 5 rfl rfl)
theorem dX4_carryOut_6 : decode cX4_carryOut 6 = .ok (.istore_n 1, 1) := dk_60 (dk_at dksX4_carryOut_0 6 rfl rfl)
theorem dX4_carryOut_7 : decode cX4_carryOut 7 = .ok (.aload_n 0, 1) := dk_42 (dk_at dksX4_carryOut_0 7 rfl rfl)
theorem dX4_carryOut_8 : decode cX4_carryOut 8 = .ok (.getfield 34, 3) := dk_180 0 34 (dk_at dksX4_carryOut_0 8 rfl rfl)
theorem dX4_carryOut_11 : decode cX4_carryOut 11 = .ok (.aload_n 0, 1) := dk_42 (dk_at dksX4_carryOut_0 11 rfl rfl)
theorem dX4_carryOut_12 : decode cX4_carryOut 12 = .ok (.getfield 168, 3) := dk_180 0 168 (dk_at dksX4_carryOut_0 12 rfl rfl)
theorem dX4_carryOut_15 : decode cX4_carryOut 15 = .ok (.iaload, 1) := dk_46 (dk_at dksX4_carryOut_0 15 rfl rfl)
theorem dX4_carryOut_16 : decode cX4_carryOut 16 = .ok (.ifCond .eq 109, 3) := dk_153 0 109 (dk_at dksX4_carryOut_0 16 rfl rfl)
theorem dX4_carryOut_19 : decode cX4_carryOut 19 = .ok (.iload_n 1, 1) := dk_27 (dk_at dksX4_carryOut_0 19 rfl rfl)
theorem dX4_carryOut_20 : decode cX4_carryOut 20 = .ok (.ifCond .ne 105, 3) := dk_154 0 105 (dk_at dksX4_carryOut_0 20 rfl rfl)
theorem dX4_carryOut_23 : decode cX4_carryOut 23 = .ok (.aload_n 0, 1) := dk_42 (dk_at dksX4_carryOut_0 23 rfl rfl)
theorem dX4_carryOut_24 : decode cX4_carryOut 24 = .ok (.ldc 187, 2) := dk_18 187 (dk_at dksX4_carryOut_1 0 rfl rfl)
theorem dX4_carryOut_26 : decode cX4_carryOut 26 = .ok (.invokevirtual 175, 3) := dk_182 0 175 (dk_at dksX4_carryOut_1 2 rfl rfl)
theorem dX4_carryOut_29 : decode cX4_carryOut 29 = .ok (.ifCond .eq 11, 3) := dk_153 0 11 (dk_at dksX4_carryOut_1 5 rfl rfl)
theorem dX4_carryOut_32 : decode cX4_carryOut 32 = .ok (.aload_n 0, 1) := dk_42 (dk_at dksX4_carryOut_1 8 rfl rfl)
theorem dX4_carryOut_33 : decode cX4_carryOut 33 = .ok (.invokevirtual 300, 3) := dk_182 1 44 (dk_at dksX4_carryOut_1 9 rfl rfl)
theorem dX4_carryOut_36 : decode cX4_carryOut 36 = .ok (.istore_n 1, 1) := dk_60 (dk_at dksX4_carryOut_1 12 rfl rfl)
theorem dX4_carryOut_37 : decode cX4_carryOut 37 = .ok (.goto 75, 3) := dk_167 0 75 (dk_at dksX4_carryOut_1 13 rfl rfl)
theorem dX4_carryOut_40 : decode cX4_carryOut 40 = .ok (.aload_n 0, 1) := dk_42 (dk_at dksX4_carryOut_1 16 rfl rfl)
theorem dX4_carryOut_41 : decode cX4_carryOut 41 = .ok (.ldc 200, 2) := dk_18 200 (dk_at dksX4_carryOut_1 17 rfl rfl)
theorem dX4_carryOut_43 : decode cX4_carryOut 43 = .ok (.invokevirtual 175, 3) := dk_182 0 175 (dk_at dksX4_carryOut_1 19 rfl rfl)
theorem dX4_carryOut_46 : decode cX4_carryOut 46 = .ok (.ifCond .eq 11, 3) := dk_153 0 11 (dk_at dksX4_carryOut_2 0 rfl rfl)
theorem dX4_carryOut_49 : decode cX4_carryOut 49 = .ok (.aload_n 0, 1) := dk_42 (dk_at dksX4_carryOut_2 3 rfl rfl)
theorem dX4_carryOut_50 : decode cX4_carryOut 50 = .ok (.invokevirtual 303, 3) := dk_182 1 47 (dk_at dksX4_carryOut_2 4 rfl rfl)
theorem dX4_carryOut_53 : decode cX4_carryOut 53 = .ok (.istore_n 1, 1) := dk_60 (dk_at dksX4_carryOut_2 7 rfl rfl)
theorem dX4_carryOut_54 : decode cX4_carryOut 54 = .ok (.goto 58, 3) := dk_167 0 58 (dk_at dksX4_carryOut_2 8 rfl rfl)
theorem dX4_carryOut_57 : decode cX4_carryOut 57 = .ok (.aload_n 0, 1) := dk_42 (dk_at dksX4_carryOut_2 11 rfl rfl)
theorem dX4_carryOut_58 : decode cX4_carryOut 58 = .ok (.ldc 205, 2) := dk_18 205 (dk_at dksX4_carryOut_2 12 rfl rfl)
theorem dX4_carryOut_60 : decode cX4_carryOut 60 = .ok (.invokevirtual 175, 3) := dk_182 0 175 (dk_at dksX4_carryOut_2 14 rfl rfl)
theorem dX4_carryOut_63 : decode cX4_carryOut 63 = .ok (.ifCond .eq 12, 3) := dk_153 0 12 (dk_at dksX4_carryOut_2 17 rfl rfl)
theorem dX4_carryOut_66 : decode cX4_carryOut 66 = .ok (.aload_n 0, 1) := dk_42 (dk_at dksX4_carryOut_2 20 rfl rfl)
theorem dX4_carryOut_67 : decode cX4_carryOut 67 = .ok (.iconst 1, 1) := dk_4 (dk_at dksX4_carryOut_2 21 rfl rfl)
theorem dX4_carryOut_68 : decode cX4_carryOut 68 = .ok (.invokevirtual 306, 3) := dk_182 1 50 (dk_at dksX4_carryOut_3 0 rfl rfl)
theorem dX4_carryOut_71 : decode cX4_carryOut 71 = .ok (.istore_n 1, 1) := dk_60 (dk_at dksX4_carryOut_3 3 rfl rfl)
theorem dX4_carryOut_72 : decode cX4_carryOut 72 = .ok (.goto 40, 3) := dk_167 0 40 (dk_at dksX4_carryOut_3 4 rfl rfl)
theorem dX4_carryOut_75 : decode cX4_carryOut 75 = .ok (.aload_n 0, 1) := dk_42 (dk_at dksX4_carryOut_3 7 rfl rfl)
theorem dX4_carryOut_76 : decode cX4_carryOut 76 = .ok (.ldc 214, 2) := dk_18 214 (dk_at dksX4_carryOut_3 8 rfl rfl)
theorem dX4_carryOut_78 : decode cX4_carryOut 78 = .ok (.invokevirtual 175, 3) := dk_182 0 175 (dk_at dksX4_carryOut_3 10 rfl rfl)
theorem dX4_carryOut_81 : decode cX4_carryOut 81 = .ok (.ifCond .eq 12, 3) := dk_153 0 12 (dk_at dksX4_carryOut_3 13 rfl rfl)
theorem dX4_carryOut_84 : decode cX4_carryOut 84 = .ok (.aload_n 0, 1) := dk_42 (dk_at dksX4_carryOut_3 16 rfl rfl)
theorem dX4_carryOut_85 : decode cX4_carryOut 85 = .ok (.iconst 2, 1) := dk_5 (dk_at dksX4_carryOut_3 17 rfl rfl)
theorem dX4_carryOut_86 : decode cX4_carryOut 86 = .ok (.invokevirtual 306, 3) := dk_182 1 50 (dk_at dksX4_carryOut_3 18 rfl rfl)
theorem dX4_carryOut_89 : decode cX4_carryOut 89 = .ok (.istore_n 1, 1) := dk_60 (dk_at dksX4_carryOut_3 21 rfl rfl)
theorem dX4_carryOut_90 : decode cX4_carryOut 90 = .ok (.goto 22, 3) := dk_167 0 22 (dk_at dksX4_carryOut_4 0 rfl rfl)
theorem dX4_carryOut_93 : decode cX4_carryOut 93 = .ok (.aload_n 0, 1) := dk_42 (dk_at dksX4_carryOut_4 3 rfl rfl)
theorem dX4_carryOut_94 : decode cX4_carryOut 94 = .ok (.aload_n 0, 1) := dk_42 (dk_at dksX4_carryOut_4 4 rfl rfl)
theorem dX4_carryOut_95 : decode cX4_carryOut 95 = .ok (.ldc 218, 2) := dk_18 218 (dk_at dksX4_carryOut_4 5 rfl rfl)
theorem dX4_carryOut_97 : decode cX4_carryOut 97 = .ok (.invokevirtual 175, 3) := dk_182 0 175 (dk_at dksX4_carryOut_4 7 rfl rfl)
theorem dX4_carryOut_100 : decode cX4_carryOut 100 = .ok (.ifCond .eq 7, 3) := dk_153 0 7 (dk_at dksX4_carryOut_4 10 rfl rfl)
theorem dX4_carryOut_103 : decode cX4_carryOut 103 = .ok (.iconst 1, 1) := dk_4 (dk_at dksX4_carryOut_4 13 rfl rfl)
theorem dX4_carryOut_104 : decode cX4_carryOut 104 = .ok (.goto 4, 3) := dk_167 0 4 (dk_at dksX4_carryOut_4 14 rfl rfl)
theorem dX4_carryOut_107 : decode cX4_carryOut 107 = .ok (.iconst 0, 1) := dk_3 (dk_at dksX4_carryOut_4 17 rfl rfl)
theorem dX4_carryOut_108 : decode cX4_carryOut 108 = .ok (.invokevirtual 309, 3) := dk_182 1 53 (dk_at dksX4_carryOut_4 18 rfl rfl)
theorem dX4_carryOut_111 : decode cX4_carryOut 111 = .ok (.istore_n 1, 1) := dk_60 (dk_at dksX4_carryOut_4 21 rfl rfl)
theorem dX4_carryOut_112 : decode cX4_carryOut 112 = .ok (.aload_n 0, 1) := dk_42 (dk_at dksX4_carryOut_4 22 rfl rfl)
theorem dX4_carryOut_113 : decode cX4_carryOut 113 = .ok (.dup, 1) := dk_89 (dk_at dksX4_carryOut_4 23 rfl rfl)
theorem dX4_carryOut_114 : decode cX4_carryOut 114 = .ok (.getfield 168, 3) := dk_180 0 168 (dk_at dksX4_carryOut_5 0 rfl rfl)
theorem dX4_carryOut_117 : decode cX4_carryOut 117 = .ok (.iconst 1, 1) := dk_4 (dk_at dksX4_carryOut_5 3 rfl rfl)
theorem dX4_carryOut_118 : decode cX4_carryOut 118 = .ok (.iadd, 1) := dk_96 (dk_at dksX4_carryOut_5 4 rfl rfl)
theorem dX4_carryOut_119 : decode cX4_carryOut 119 = .ok (.putfield 168, 3) := dk_181 0 168 (dk_at dksX4_carryOut_5 5 rfl rfl)
theorem dX4_carryOut_122 : decode cX4_carryOut 122 = .ok (.goto (-115), 3) := dk_167 255 141 (dk_at dksX4_carryOut_5 8 rfl rfl)
theorem dX4_carryOut_125 : decode cX4_carryOut 125 = .ok (.iload_n 1, 1) := dk_27 (dk_at dksX4_carryOut_5 11 rfl rfl)
theorem dX4_carryOut_126 : decode cX4_carryOut 126 = .ok (.ireturn, 1) := dk_172 (dk_at dksX4_carryOut_5 12 rfl rfl)
theorem q2683 : (Jvm.Cond.code ({ cls := "DebateHallModel", name := "actLine", desc := "(I)I" } : Jvm.MethodName) prog_25_method_36_code (9 : Nat) (Option.some Jvm.ClassFile.FieldType.int)) ∈ lw_all := lw_g (lw_at lw_m11 203 rfl) rfl
theorem zk_X4_actLine : zz_cd yX4_actLine cX4_actLine 9 (some .int) none ∈ lw_all := q2683
theorem zy_X4_actLine : zz_yok yX4_actLine 1 = true := by decide +kernel
theorem q2680 : (Jvm.Cond.methodLink "DebateHallModel" (306 : Nat) ({ cls := "DebateHallModel", name := "actLine", desc := "(I)I" } : Jvm.MethodName)) ∈ lw_all := lw_g (lw_at lw_m11 200 rfl) rfl
theorem q2682 : (Jvm.Cond.instanceMethod ({ cls := "DebateHallModel", name := "actLine", desc := "(I)I" } : Jvm.MethodName)) ∈ lw_all := lw_g (lw_at lw_m11 202 rfl) rfl
theorem q2659 : (Jvm.Cond.code ({ cls := "DebateHallModel", name := "claimLine", desc := "()I" } : Jvm.MethodName) prog_25_method_35_code (5 : Nat) (Option.some Jvm.ClassFile.FieldType.int)) ∈ lw_all := lw_g (lw_at lw_m11 179 rfl) rfl
theorem zk_X4_claimLine : zz_cd yX4_claimLine cX4_claimLine 5 (some .int) none ∈ lw_all := q2659
theorem zy_X4_claimLine : zz_yok yX4_claimLine 0 = true := by decide +kernel
theorem q2656 : (Jvm.Cond.methodLink "DebateHallModel" (303 : Nat) ({ cls := "DebateHallModel", name := "claimLine", desc := "()I" } : Jvm.MethodName)) ∈ lw_all := lw_g (lw_at lw_m11 176 rfl) rfl
theorem q2658 : (Jvm.Cond.instanceMethod ({ cls := "DebateHallModel", name := "claimLine", desc := "()I" } : Jvm.MethodName)) ∈ lw_all := lw_g (lw_at lw_m11 178 rfl) rfl
theorem q2650 : (Jvm.Cond.code ({ cls := "DebateHallModel", name := "speakerLine", desc := "()I" } : Jvm.MethodName) prog_25_method_32_code (3 : Nat) (Option.some Jvm.ClassFile.FieldType.int)) ∈ lw_all := lw_g (lw_at lw_m11 170 rfl) rfl
theorem zk_X4_speakerLine : zz_cd yX4_speakerLine cX4_speakerLine 3 (some .int) none ∈ lw_all := q2650
theorem zy_X4_speakerLine : zz_yok yX4_speakerLine 0 = true := by decide +kernel
theorem q2647 : (Jvm.Cond.methodLink "DebateHallModel" (300 : Nat) ({ cls := "DebateHallModel", name := "speakerLine", desc := "()I" } : Jvm.MethodName)) ∈ lw_all := lw_g (lw_at lw_m11 167 rfl) rfl
theorem q2649 : (Jvm.Cond.instanceMethod ({ cls := "DebateHallModel", name := "speakerLine", desc := "()I" } : Jvm.MethodName)) ∈ lw_all := lw_g (lw_at lw_m11 169 rfl) rfl
theorem q2719 : (Jvm.Cond.code ({ cls := "DebateHallModel", name := "concedeLine", desc := "(I)I" } : Jvm.MethodName) prog_25_method_41_code (5 : Nat) (Option.some Jvm.ClassFile.FieldType.int)) ∈ lw_all := lw_g (lw_at lw_m11 239 rfl) rfl
theorem zk_X4_concedeLine : zz_cd yX4_concedeLine cX4_concedeLine 5 (some .int) none ∈ lw_all := q2719
theorem zy_X4_concedeLine : zz_yok yX4_concedeLine 1 = true := by decide +kernel
theorem q2716 : (Jvm.Cond.methodLink "DebateHallModel" (309 : Nat) ({ cls := "DebateHallModel", name := "concedeLine", desc := "(I)I" } : Jvm.MethodName)) ∈ lw_all := lw_g (lw_at lw_m11 236 rfl) rfl
theorem q2718 : (Jvm.Cond.instanceMethod ({ cls := "DebateHallModel", name := "concedeLine", desc := "(I)I" } : Jvm.MethodName)) ∈ lw_all := lw_g (lw_at lw_m11 238 rfl) rfl
def wp_X4_carryOut_B112 (Z : zzG) (k7 : Option Nat → Int32 → zzM → Prop) (K : Option Value → zzM → Prop) (v0 : Option Nat) (v1 : Int32) (M : zzM) : Prop := zgI Z M v0 [16] 10 fun x50 => zput Z M v0 [16] 10 (.int (x50 + (1 : Int32))) fun M51 => k7 v0 v1 M51
def wp_X4_carryOut_B108 (Z : zzG) (k7 : Option Nat → Int32 → zzM → Prop) (K : Option Value → zzM → Prop) (v0 : Option Nat) (s0 : Int32) (s1 : Option Nat) (M : zzM) : Prop := zty Z M s1 fun t => t = 16 ∧ wp_X4_concedeLine Z s1 s0 M (fun r52 M53 => zrI r52 fun x56 => wp_X4_carryOut_B112 Z k7 K v0 x56 M53)
def wp_X4_carryOut_B125 (Z : zzG) (K : Option Value → zzM → Prop) (v1 : Int32) (M : zzM) : Prop := K (some (.int v1)) M
def wp_X4_carryOut_L7 (Z : zzG) (K : Option Value → zzM → Prop) : Nat → Option Nat → Int32 → zzM → Prop
  | 0, _, _, _ => False
  | n + 1, v0, v1, M => zgA Z M v0 [16] 7 fun x2 => zgI Z M v0 [16] 10 fun x3 => zaI Z M x2 [100] x3 fun x4 => if x4 = 0 then (wp_X4_carryOut_B125 Z K v1 M) else (if v1 = 0 then (zty Z M v0 fun t => t = 16 ∧ wp_X4_is Z v0 (some (zz_ad Z 168)) M (fun r5 M6 => zrI r5 fun x9 => if x9 = 0 then (zty Z M6 v0 fun t => t = 16 ∧ wp_X4_is Z v0 (some (zz_ad Z 121)) M6 (fun r10 M11 => zrI r10 fun x14 => if x14 = 0 then (zty Z M11 v0 fun t => t = 16 ∧ wp_X4_is Z v0 (some (zz_ad Z 115)) M11 (fun r15 M16 => zrI r15 fun x19 => if x19 = 0 then (zty Z M16 v0 fun t => t = 16 ∧ wp_X4_is Z v0 (some (zz_ad Z 171)) M16 (fun r20 M21 => zrI r20 fun x24 => if x24 = 0 then (zty Z M21 v0 fun t => t = 16 ∧ wp_X4_is Z v0 (some (zz_ad Z 124)) M21 (fun r25 M26 => zrI r25 fun x29 => if x29 = 0 then (wp_X4_carryOut_B108 Z (wp_X4_carryOut_L7 Z K n) K v0 (0 : Int32) v0 M26) else (wp_X4_carryOut_B108 Z (wp_X4_carryOut_L7 Z K n) K v0 (1 : Int32) v0 M26))) else (zty Z M21 v0 fun t => t = 16 ∧ wp_X4_actLine Z v0 (2 : Int32) M21 (fun r30 M31 => zrI r30 fun x34 => wp_X4_carryOut_B112 Z (wp_X4_carryOut_L7 Z K n) K v0 x34 M31)))) else (zty Z M16 v0 fun t => t = 16 ∧ wp_X4_actLine Z v0 (1 : Int32) M16 (fun r35 M36 => zrI r35 fun x39 => wp_X4_carryOut_B112 Z (wp_X4_carryOut_L7 Z K n) K v0 x39 M36)))) else (zty Z M11 v0 fun t => t = 16 ∧ wp_X4_claimLine Z v0 M11 (fun r40 M41 => zrI r40 fun x44 => wp_X4_carryOut_B112 Z (wp_X4_carryOut_L7 Z K n) K v0 x44 M41)))) else (zty Z M6 v0 fun t => t = 16 ∧ wp_X4_speakerLine Z v0 M6 (fun r45 M46 => zrI r45 fun x49 => wp_X4_carryOut_B112 Z (wp_X4_carryOut_L7 Z K n) K v0 x49 M46)))) else (wp_X4_carryOut_B125 Z K v1 M))
def wp_X4_carryOut (Z : zzG) (this : Option Nat) (M : zzM) (K : Option Value → zzM → Prop) : Prop := zput Z M this [16] 10 (.int (0 : Int32)) fun M1 => ∃ n7 : Nat, wp_X4_carryOut_L7 Z K n7 this (0 : Int32) M1
theorem ok_X4_carryOut_B112 {G : zzX} (C : zz_C G cX4_carryOut "DebateHallModel" 2) {K : Option Value → zzM → Prop} (E : zz_E G (some .int) K (fun _ _ _ => False)) (hH : zz_H G []) (hR : zz_Rm G 70) {k7 : Option Nat → Int32 → zzM → Prop} (hk7 : ∀ (z0 : Option Nat) (z1 : Int32) (M : zzM) (bc bs : Nat), k7 z0 z1 M → zz_T G 2 M bc bs 7 [(0, va_rf z0), (1, .int z1)] []) {v0 : Option Nat} {v1 : Int32} {M : zzM} {bc bs : Nat} (hw : wp_X4_carryOut_B112 (zz_Zof G) k7 K v0 v1 M) : zz_T G 2 M bc bs 112 [(0, va_rf v0), (1, .int v1)] [] := by
  unfold wp_X4_carryOut_B112 at hw
  refine zz_aload_n C dX4_carryOut_112 rfl 0 rfl ?_
  refine zz_dup C dX4_carryOut_113 (zz_cat _) ?_
  refine zz_getI C dX4_carryOut_114 (Or.inl q2446) zf_16_10_ebateHallModel hw (fun x50 hw => ?_)
  refine zz_iconst (v := (1 : Int32)) C dX4_carryOut_117 (by decide) ?_
  refine zz_iadd C dX4_carryOut_118 ?_
  refine zz_put C dX4_carryOut_119 (Or.inl q2446) zf_16_10_ebateHallModel zp_16_10 (zz_hn1 ⟨rfl, rfl⟩) hw (fun M51 hw => ?_)
  refine zz_goto (tgt := 7) C dX4_carryOut_122 (by decide) ?_
  refine zz_subP [0, 1] rfl ?_
  exact hk7 _ _ _ _ _ hw
theorem ok_X4_carryOut_B108 {G : zzX} (C : zz_C G cX4_carryOut "DebateHallModel" 2) {K : Option Value → zzM → Prop} (E : zz_E G (some .int) K (fun _ _ _ => False)) (hH : zz_H G []) (hR : zz_Rm G 70) {k7 : Option Nat → Int32 → zzM → Prop} (hk7 : ∀ (z0 : Option Nat) (z1 : Int32) (M : zzM) (bc bs : Nat), k7 z0 z1 M → zz_T G 2 M bc bs 7 [(0, va_rf z0), (1, .int z1)] []) {v0 : Option Nat} {s0 : Int32} {s1 : Option Nat} {M : zzM} {bc bs : Nat} (hw : wp_X4_carryOut_B108 (zz_Zof G) k7 K v0 s0 s1 M) : zz_T G 2 M bc bs 108 [(0, va_rf v0)] [.int s0, va_rf s1] := by
  unfold wp_X4_carryOut_B108 at hw
  obtain ⟨a9, t9, b9, fs9, hro, hL, rfl, hw⟩ := ztyS hw
  refine zz_callV (r := (zR_16, zT_16, 24)) (As := [.int s0]) (rest := []) (mc := 0) (ms := 0) C hR hro dX4_carryOut_108 (Or.inl q2716) q2718 (Or.inl qs63) zl_DebateHallModel zk_X4_concedeLine (Or.inl rfl) zy_X4_concedeLine rfl (by decide) (by decide) hL (ok_X4_concedeLine (zz_hl C) hw) (Nat.zero_le _) (Nat.zero_le _) (zz_cat10 _ (Nat.le_of_ble_eq_true rfl)) (fun r52 M53 hw => zz_kI hw (fun x56 hw => ?_)) (fun _ _ _ h9 => h9.elim) rfl
  refine zz_istore_n (i := 1) (lv' := [(1, .int x56), (0, va_rf v0)]) C dX4_carryOut_111 rfl (by decide) (by simp [zz_cat, zz_catI, zz_catJ, zz_catD]) ?_
  refine zz_subP [1, 0] rfl ?_
  exact ok_X4_carryOut_B112 C E hH hR hk7 hw
theorem ok_X4_carryOut_B125 {G : zzX} (C : zz_C G cX4_carryOut "DebateHallModel" 2) {K : Option Value → zzM → Prop} (E : zz_E G (some .int) K (fun _ _ _ => False)) (hH : zz_H G []) (hR : zz_Rm G 70) {v1 : Int32} {M : zzM} {bc bs : Nat} (hw : wp_X4_carryOut_B125 (zz_Zof G) K v1 M) : zz_T G 2 M bc bs 125 [(1, .int v1)] [] := by
  unfold wp_X4_carryOut_B125 at hw
  refine zz_iload_n C dX4_carryOut_125 rfl 0 rfl ?_
  exact zz_iret C E dX4_carryOut_126 hw
theorem ok_X4_carryOut_L7 {G : zzX} (C : zz_C G cX4_carryOut "DebateHallModel" 2) {K : Option Value → zzM → Prop} (E : zz_E G (some .int) K (fun _ _ _ => False)) (hH : zz_H G []) (hR : zz_Rm G 70) : ∀ (n : Nat) (v0 : Option Nat) (v1 : Int32) (M : zzM) (bc bs : Nat), wp_X4_carryOut_L7 (zz_Zof G) K n v0 v1 M → zz_T G 2 M bc bs 7 [(0, va_rf v0), (1, .int v1)] [] := by
  intro n
  induction n with
  | zero =>
    intro v0 v1 M bc bs hw
    exact False.elim hw
  | succ n ih =>
    intro v0 v1 M bc bs hw
    refine zz_aload_n C dX4_carryOut_7 rfl 0 rfl ?_
    refine zz_getA C dX4_carryOut_8 (Or.inl q2443) zf_16_7_ebateHallModel hw (fun x2 hw => ?_)
    refine zz_aload_n C dX4_carryOut_11 rfl 0 rfl ?_
    refine zz_getI C dX4_carryOut_12 (Or.inl q2446) zf_16_10_ebateHallModel hw (fun x3 hw => ?_)
    refine zz_iald C dX4_carryOut_15 hw (fun x4 hw => ?_)
    refine zz_if_eq (tgt := 125) C dX4_carryOut_16 (by decide) hw (fun hw => ?_) (fun hw => ?_)
    · refine zz_subP [1] rfl ?_
      exact ok_X4_carryOut_B125 C E hH hR hw
    · refine zz_iload_n C dX4_carryOut_19 rfl 1 rfl ?_
      refine zz_if_ne (tgt := 125) C dX4_carryOut_20 (by decide) hw (fun hw => ?_) (fun hw => ?_)
      · refine zz_subP [1] rfl ?_
        exact ok_X4_carryOut_B125 C E hH hR hw
      · refine zz_aload_n C dX4_carryOut_23 rfl 0 rfl ?_
        refine zz_ldcS (j := 68) C dX4_carryOut_24 rfl ?_
        obtain ⟨a9, t9, b9, fs9, hro, hL, rfl, hw⟩ := ztyS hw
        refine zz_callV (r := (zR_16, zT_16, 24)) (As := [va_rf (some (zz_ad (zz_Zof G) 168))]) (rest := []) (mc := 0) (ms := 0) C hR hro dX4_carryOut_26 (Or.inl q2564) q2566 (Or.inl qs38) zl_DebateHallModel zk_X4_is (Or.inl rfl) zy_X4_is rfl (by decide) (by decide) hL (ok_X4_is (zz_hl C) hw) (Nat.zero_le _) (Nat.zero_le _) (zz_cat10 _ (Nat.le_of_ble_eq_true rfl)) (fun r5 M6 hw => zz_kI hw (fun x9 hw => ?_)) (fun _ _ _ h9 => h9.elim) rfl
        refine zz_if_eq (tgt := 40) C dX4_carryOut_29 (by decide) hw (fun hw => ?_) (fun hw => ?_)
        · refine zz_aload_n C dX4_carryOut_40 rfl 0 rfl ?_
          refine zz_ldcS (j := 21) C dX4_carryOut_41 rfl ?_
          obtain ⟨a9, t9, b9, fs9, hro, hL, rfl, hw⟩ := ztyS hw
          refine zz_callV (r := (zR_16, zT_16, 24)) (As := [va_rf (some (zz_ad (zz_Zof G) 121))]) (rest := []) (mc := 0) (ms := 0) C hR hro dX4_carryOut_43 (Or.inl q2564) q2566 (Or.inl qs38) zl_DebateHallModel zk_X4_is (Or.inl rfl) zy_X4_is rfl (by decide) (by decide) hL (ok_X4_is (zz_hl C) hw) (Nat.zero_le _) (Nat.zero_le _) (zz_cat10 _ (Nat.le_of_ble_eq_true rfl)) (fun r10 M11 hw => zz_kI hw (fun x14 hw => ?_)) (fun _ _ _ h9 => h9.elim) rfl
          refine zz_if_eq (tgt := 57) C dX4_carryOut_46 (by decide) hw (fun hw => ?_) (fun hw => ?_)
          · refine zz_aload_n C dX4_carryOut_57 rfl 0 rfl ?_
            refine zz_ldcS (j := 15) C dX4_carryOut_58 rfl ?_
            obtain ⟨a9, t9, b9, fs9, hro, hL, rfl, hw⟩ := ztyS hw
            refine zz_callV (r := (zR_16, zT_16, 24)) (As := [va_rf (some (zz_ad (zz_Zof G) 115))]) (rest := []) (mc := 0) (ms := 0) C hR hro dX4_carryOut_60 (Or.inl q2564) q2566 (Or.inl qs38) zl_DebateHallModel zk_X4_is (Or.inl rfl) zy_X4_is rfl (by decide) (by decide) hL (ok_X4_is (zz_hl C) hw) (Nat.zero_le _) (Nat.zero_le _) (zz_cat10 _ (Nat.le_of_ble_eq_true rfl)) (fun r15 M16 hw => zz_kI hw (fun x19 hw => ?_)) (fun _ _ _ h9 => h9.elim) rfl
            refine zz_if_eq (tgt := 75) C dX4_carryOut_63 (by decide) hw (fun hw => ?_) (fun hw => ?_)
            · refine zz_aload_n C dX4_carryOut_75 rfl 0 rfl ?_
              refine zz_ldcS (j := 71) C dX4_carryOut_76 rfl ?_
              obtain ⟨a9, t9, b9, fs9, hro, hL, rfl, hw⟩ := ztyS hw
              refine zz_callV (r := (zR_16, zT_16, 24)) (As := [va_rf (some (zz_ad (zz_Zof G) 171))]) (rest := []) (mc := 0) (ms := 0) C hR hro dX4_carryOut_78 (Or.inl q2564) q2566 (Or.inl qs38) zl_DebateHallModel zk_X4_is (Or.inl rfl) zy_X4_is rfl (by decide) (by decide) hL (ok_X4_is (zz_hl C) hw) (Nat.zero_le _) (Nat.zero_le _) (zz_cat10 _ (Nat.le_of_ble_eq_true rfl)) (fun r20 M21 hw => zz_kI hw (fun x24 hw => ?_)) (fun _ _ _ h9 => h9.elim) rfl
              refine zz_if_eq (tgt := 93) C dX4_carryOut_81 (by decide) hw (fun hw => ?_) (fun hw => ?_)
              · refine zz_aload_n C dX4_carryOut_93 rfl 0 rfl ?_
                refine zz_aload_n C dX4_carryOut_94 rfl 0 rfl ?_
                refine zz_ldcS (j := 24) C dX4_carryOut_95 rfl ?_
                obtain ⟨a9, t9, b9, fs9, hro, hL, rfl, hw⟩ := ztyS hw
                refine zz_callV (r := (zR_16, zT_16, 24)) (As := [va_rf (some (zz_ad (zz_Zof G) 124))]) (rest := [va_rf v0]) (mc := 0) (ms := 0) C hR hro dX4_carryOut_97 (Or.inl q2564) q2566 (Or.inl qs38) zl_DebateHallModel zk_X4_is (Or.inl rfl) zy_X4_is rfl (by decide) (by decide) hL (ok_X4_is (zz_hl C) hw) (Nat.zero_le _) (Nat.zero_le _) (zz_cat10 _ (Nat.le_of_ble_eq_true rfl)) (fun r25 M26 hw => zz_kI hw (fun x29 hw => ?_)) (fun _ _ _ h9 => h9.elim) rfl
                refine zz_if_eq (tgt := 107) C dX4_carryOut_100 (by decide) hw (fun hw => ?_) (fun hw => ?_)
                · refine zz_iconst (v := (0 : Int32)) C dX4_carryOut_107 (by decide) ?_
                  refine zz_subP [0] rfl ?_
                  exact ok_X4_carryOut_B108 C E hH hR (fun z0 z1 z2 z3 z4 hw => ih z0 z1 z2 z3 z4 hw) hw
                · refine zz_iconst (v := (1 : Int32)) C dX4_carryOut_103 (by decide) ?_
                  refine zz_goto (tgt := 108) C dX4_carryOut_104 (by decide) ?_
                  refine zz_subP [0] rfl ?_
                  exact ok_X4_carryOut_B108 C E hH hR (fun z0 z1 z2 z3 z4 hw => ih z0 z1 z2 z3 z4 hw) hw
              · refine zz_aload_n C dX4_carryOut_84 rfl 0 rfl ?_
                refine zz_iconst (v := (2 : Int32)) C dX4_carryOut_85 (by decide) ?_
                obtain ⟨a9, t9, b9, fs9, hro, hL, rfl, hw⟩ := ztyS hw
                refine zz_callV (r := (zR_16, zT_16, 24)) (As := [.int (2 : Int32)]) (rest := []) (mc := 0) (ms := 0) C hR hro dX4_carryOut_86 (Or.inl q2680) q2682 (Or.inl qs55) zl_DebateHallModel zk_X4_actLine (Or.inl rfl) zy_X4_actLine rfl (by decide) (by decide) hL (ok_X4_actLine (zz_hl C) hw) (Nat.zero_le _) (Nat.zero_le _) (zz_cat10 _ (Nat.le_of_ble_eq_true rfl)) (fun r30 M31 hw => zz_kI hw (fun x34 hw => ?_)) (fun _ _ _ h9 => h9.elim) rfl
                refine zz_istore_n (i := 1) (lv' := [(1, .int x34), (0, va_rf v0)]) C dX4_carryOut_89 rfl (by decide) (by simp [zz_cat, zz_catI, zz_catJ, zz_catD]) ?_
                refine zz_goto (tgt := 112) C dX4_carryOut_90 (by decide) ?_
                refine zz_subP [1, 0] rfl ?_
                exact ok_X4_carryOut_B112 C E hH hR (fun z0 z1 z2 z3 z4 hw => ih z0 z1 z2 z3 z4 hw) hw
            · refine zz_aload_n C dX4_carryOut_66 rfl 0 rfl ?_
              refine zz_iconst (v := (1 : Int32)) C dX4_carryOut_67 (by decide) ?_
              obtain ⟨a9, t9, b9, fs9, hro, hL, rfl, hw⟩ := ztyS hw
              refine zz_callV (r := (zR_16, zT_16, 24)) (As := [.int (1 : Int32)]) (rest := []) (mc := 0) (ms := 0) C hR hro dX4_carryOut_68 (Or.inl q2680) q2682 (Or.inl qs55) zl_DebateHallModel zk_X4_actLine (Or.inl rfl) zy_X4_actLine rfl (by decide) (by decide) hL (ok_X4_actLine (zz_hl C) hw) (Nat.zero_le _) (Nat.zero_le _) (zz_cat10 _ (Nat.le_of_ble_eq_true rfl)) (fun r35 M36 hw => zz_kI hw (fun x39 hw => ?_)) (fun _ _ _ h9 => h9.elim) rfl
              refine zz_istore_n (i := 1) (lv' := [(1, .int x39), (0, va_rf v0)]) C dX4_carryOut_71 rfl (by decide) (by simp [zz_cat, zz_catI, zz_catJ, zz_catD]) ?_
              refine zz_goto (tgt := 112) C dX4_carryOut_72 (by decide) ?_
              refine zz_subP [1, 0] rfl ?_
              exact ok_X4_carryOut_B112 C E hH hR (fun z0 z1 z2 z3 z4 hw => ih z0 z1 z2 z3 z4 hw) hw
          · refine zz_aload_n C dX4_carryOut_49 rfl 0 rfl ?_
            obtain ⟨a9, t9, b9, fs9, hro, hL, rfl, hw⟩ := ztyS hw
            refine zz_callV (r := (zR_16, zT_16, 24)) (As := []) (rest := []) (mc := 0) (ms := 0) C hR hro dX4_carryOut_50 (Or.inl q2656) q2658 (Or.inl qs51) zl_DebateHallModel zk_X4_claimLine (Or.inl rfl) zy_X4_claimLine rfl (by decide) (by decide) hL (ok_X4_claimLine (zz_hl C) hw) (Nat.zero_le _) (Nat.zero_le _) (zz_cat10 _ (Nat.le_of_ble_eq_true rfl)) (fun r40 M41 hw => zz_kI hw (fun x44 hw => ?_)) (fun _ _ _ h9 => h9.elim) rfl
            refine zz_istore_n (i := 1) (lv' := [(1, .int x44), (0, va_rf v0)]) C dX4_carryOut_53 rfl (by decide) (by simp [zz_cat, zz_catI, zz_catJ, zz_catD]) ?_
            refine zz_goto (tgt := 112) C dX4_carryOut_54 (by decide) ?_
            refine zz_subP [1, 0] rfl ?_
            exact ok_X4_carryOut_B112 C E hH hR (fun z0 z1 z2 z3 z4 hw => ih z0 z1 z2 z3 z4 hw) hw
        · refine zz_aload_n C dX4_carryOut_32 rfl 0 rfl ?_
          obtain ⟨a9, t9, b9, fs9, hro, hL, rfl, hw⟩ := ztyS hw
          refine zz_callV (r := (zR_16, zT_16, 24)) (As := []) (rest := []) (mc := 0) (ms := 0) C hR hro dX4_carryOut_33 (Or.inl q2647) q2649 (Or.inl qs50) zl_DebateHallModel zk_X4_speakerLine (Or.inl rfl) zy_X4_speakerLine rfl (by decide) (by decide) hL (ok_X4_speakerLine (zz_hl C) hw) (Nat.zero_le _) (Nat.zero_le _) (zz_cat10 _ (Nat.le_of_ble_eq_true rfl)) (fun r45 M46 hw => zz_kI hw (fun x49 hw => ?_)) (fun _ _ _ h9 => h9.elim) rfl
          refine zz_istore_n (i := 1) (lv' := [(1, .int x49), (0, va_rf v0)]) C dX4_carryOut_36 rfl (by decide) (by simp [zz_cat, zz_catI, zz_catJ, zz_catD]) ?_
          refine zz_goto (tgt := 112) C dX4_carryOut_37 (by decide) ?_
          refine zz_subP [1, 0] rfl ?_
          exact ok_X4_carryOut_B112 C E hH hR (fun z0 z1 z2 z3 z4 hw => ih z0 z1 z2 z3 z4 hw) hw
theorem ok_X4_carryOut {Z : zzG} {l : Launch} (hl : l.stackTraces = false) {this : Option Nat} {M : zzM} {mc ms : Nat} {K : Option Value → zzM → Prop} (hw : wp_X4_carryOut Z this M K) : zz_Met Z l yX4_carryOut (zz_ws yX4_carryOut cX4_carryOut 2 (some .int) none) 70 [va_rf this] M mc ms K (fun _ _ _ => False) := by
  refine zz_ofW hl (plainFor_of_name (by decide)) (by simp only [zz_sl0, zz_slI, zz_slJ, zz_slA] <;> decide) (fun G hZ hll C E hH hR hin => ?_)
  subst hZ
  subst hll
  rw [show lv_args 0 [va_rf this] = [(0, va_rf this)] by simp only [zz_la0, zz_laI, zz_laJ, zz_laA]]
  unfold wp_X4_carryOut at hw
  refine zz_aload_n C dX4_carryOut_0 rfl 0 rfl ?_
  refine zz_iconst (v := (0 : Int32)) C dX4_carryOut_1 (by decide) ?_
  refine zz_put C dX4_carryOut_2 (Or.inl q2446) zf_16_10_ebateHallModel zp_16_10 (zz_hn1 ⟨rfl, rfl⟩) hw (fun M1 hw => ?_)
  refine zz_iconst (v := (0 : Int32)) C dX4_carryOut_5 (by decide) ?_
  refine zz_istore_n (i := 1) (lv' := [(1, .int (0 : Int32)), (0, va_rf this)]) C dX4_carryOut_6 rfl (by decide) (by simp [zz_cat, zz_catI, zz_catJ, zz_catD]) ?_
  refine zz_subP [1, 0] rfl ?_
  obtain ⟨n7, hw⟩ := hw
  exact ok_X4_carryOut_L7 C E hH hR n7 _ _ _ _ _ hw
abbrev cX4_tell : ByteArray := prog_25_method_45_code
def yX4_tell : MethodName := ⟨"DebateHallModel", "tell", "()I"⟩
def dkwX4_tell_3 : List UInt8 := [42, 42, 180, 0, 55, 42, 180, 0, 58, 182, 1, 31, 181, 1, 72, 27, 172]
abbrev dktX4_tell_3 : List UInt8 := dkwX4_tell_3 ++ []
def dkwX4_tell_2 : List UInt8 := [42, 182, 1, 69, 60, 27, 158, 0, 17, 42, 180, 0, 48, 42, 180, 0, 52, 182, 1, 65, 167, 0, 19, 42]
abbrev dktX4_tell_2 : List UInt8 := dkwX4_tell_2 ++ dktX4_tell_3
def dkwX4_tell_1 : List UInt8 := [154, 0, 13, 42, 4, 42, 180, 0, 168, 182, 0, 255, 172, 42, 180, 0, 52, 42, 180, 0, 48, 182, 1, 65]
abbrev dktX4_tell_1 : List UInt8 := dkwX4_tell_1 ++ dktX4_tell_2
def dkwX4_tell_0 : List UInt8 := [42, 3, 181, 0, 85, 42, 2, 181, 0, 23, 42, 182, 1, 59, 42, 3, 181, 0, 145, 42, 182, 1, 62]
abbrev dktX4_tell_0 : List UInt8 := dkwX4_tell_0 ++ dktX4_tell_1
theorem dksX4_tell_0 : cX4_tell.data.toList.drop 0 = dktX4_tell_0 := by decide +kernel
theorem dksX4_tell_1 : cX4_tell.data.toList.drop 23 = dktX4_tell_1 := dk_seg dksX4_tell_0 23 rfl rfl
theorem dksX4_tell_2 : cX4_tell.data.toList.drop 47 = dktX4_tell_2 := dk_seg dksX4_tell_1 24 rfl rfl
theorem dksX4_tell_3 : cX4_tell.data.toList.drop 71 = dktX4_tell_3 := dk_seg dksX4_tell_2 24 rfl rfl
theorem dX4_tell_0 : decode cX4_tell 0 = .ok (.aload_n 0, 1) := dk_42 (dk_at dksX4_tell_0 0 rfl rfl)
theorem dX4_tell_1 : decode cX4_tell 1 = .ok (.iconst 0, 1) := dk_3 (dk_at dksX4_tell_0 1 rfl rfl)
theorem dX4_tell_2 : decode cX4_tell 2 = .ok (.putfield 85, 3) := dk_181 0 85 (dk_at dksX4_tell_0 2 rfl rfl)
theorem dX4_tell_5 : decode cX4_tell 5 = .ok (.aload_n 0, 1) := dk_42 (dk_at dksX4_tell_0 5 rfl rfl)
theorem dX4_tell_6 : decode cX4_tell 6 = .ok (.iconst (-1), 1) := dk_2 (dk_at dksX4_tell_0 6 rfl rfl)
theorem dX4_tell_7 : decode cX4_tell 7 = .ok (.putfield 23, 3) := dk_181 0 23 (dk_at dksX4_tell_0 7 rfl rfl)
theorem dX4_tell_10 : decode cX4_tell 10 = .ok (.aload_n 0, 1) := dk_42 (dk_at dksX4_tell_0 10 rfl rfl)
theorem dX4_tell_11 : decode cX4_tell 11 = .ok (.invokevirtual 315, 3) := dk_182 1 59 (dk_at dksX4_tell_0 11 rfl rfl)
theorem dX4_tell_14 : decode cX4_tell 14 = .ok (.aload_n 0, 1) := dk_42 (dk_at dksX4_tell_0 14 rfl rfl)
theorem dX4_tell_15 : decode cX4_tell 15 = .ok (.iconst 0, 1) := dk_3 (dk_at dksX4_tell_0 15 rfl rfl)
theorem dX4_tell_16 : decode cX4_tell 16 = .ok (.putfield 145, 3) := dk_181 0 145 (dk_at dksX4_tell_0 16 rfl rfl)
theorem dX4_tell_19 : decode cX4_tell 19 = .ok (.aload_n 0, 1) := dk_42 (dk_at dksX4_tell_0 19 rfl rfl)
theorem dX4_tell_20 : decode cX4_tell 20 = .ok (.invokevirtual 318, 3) := dk_182 1 62 (dk_at dksX4_tell_0 20 rfl rfl)
theorem dX4_tell_23 : decode cX4_tell 23 = .ok (.ifCond .ne 13, 3) := dk_154 0 13 (dk_at dksX4_tell_1 0 rfl rfl)
theorem dX4_tell_26 : decode cX4_tell 26 = .ok (.aload_n 0, 1) := dk_42 (dk_at dksX4_tell_1 3 rfl rfl)
theorem dX4_tell_27 : decode cX4_tell 27 = .ok (.iconst 1, 1) := dk_4 (dk_at dksX4_tell_1 4 rfl rfl)
theorem dX4_tell_28 : decode cX4_tell 28 = .ok (.aload_n 0, 1) := dk_42 (dk_at dksX4_tell_1 5 rfl rfl)
theorem dX4_tell_29 : decode cX4_tell 29 = .ok (.getfield 168, 3) := dk_180 0 168 (dk_at dksX4_tell_1 6 rfl rfl)
theorem dX4_tell_32 : decode cX4_tell 32 = .ok (.invokevirtual 255, 3) := dk_182 0 255 (dk_at dksX4_tell_1 9 rfl rfl)
theorem dX4_tell_35 : decode cX4_tell 35 = .ok (.ireturn, 1) := dk_172 (dk_at dksX4_tell_1 12 rfl rfl)
theorem dX4_tell_36 : decode cX4_tell 36 = .ok (.aload_n 0, 1) := dk_42 (dk_at dksX4_tell_1 13 rfl rfl)
theorem dX4_tell_37 : decode cX4_tell 37 = .ok (.getfield 52, 3) := dk_180 0 52 (dk_at dksX4_tell_1 14 rfl rfl)
theorem dX4_tell_40 : decode cX4_tell 40 = .ok (.aload_n 0, 1) := dk_42 (dk_at dksX4_tell_1 17 rfl rfl)
theorem dX4_tell_41 : decode cX4_tell 41 = .ok (.getfield 48, 3) := dk_180 0 48 (dk_at dksX4_tell_1 18 rfl rfl)
theorem dX4_tell_44 : decode cX4_tell 44 = .ok (.invokevirtual 321, 3) := dk_182 1 65 (dk_at dksX4_tell_1 21 rfl rfl)
theorem dX4_tell_47 : decode cX4_tell 47 = .ok (.aload_n 0, 1) := dk_42 (dk_at dksX4_tell_2 0 rfl rfl)
theorem dX4_tell_48 : decode cX4_tell 48 = .ok (.invokevirtual 325, 3) := dk_182 1 69 (dk_at dksX4_tell_2 1 rfl rfl)
theorem dX4_tell_51 : decode cX4_tell 51 = .ok (.istore_n 1, 1) := dk_60 (dk_at dksX4_tell_2 4 rfl rfl)
theorem dX4_tell_52 : decode cX4_tell 52 = .ok (.iload_n 1, 1) := dk_27 (dk_at dksX4_tell_2 5 rfl rfl)
theorem dX4_tell_53 : decode cX4_tell 53 = .ok (.ifCond .le 17, 3) := dk_158 0 17 (dk_at dksX4_tell_2 6 rfl rfl)
theorem dX4_tell_56 : decode cX4_tell 56 = .ok (.aload_n 0, 1) := dk_42 (dk_at dksX4_tell_2 9 rfl rfl)
theorem dX4_tell_57 : decode cX4_tell 57 = .ok (.getfield 48, 3) := dk_180 0 48 (dk_at dksX4_tell_2 10 rfl rfl)
theorem dX4_tell_60 : decode cX4_tell 60 = .ok (.aload_n 0, 1) := dk_42 (dk_at dksX4_tell_2 13 rfl rfl)
theorem dX4_tell_61 : decode cX4_tell 61 = .ok (.getfield 52, 3) := dk_180 0 52 (dk_at dksX4_tell_2 14 rfl rfl)
theorem dX4_tell_64 : decode cX4_tell 64 = .ok (.invokevirtual 321, 3) := dk_182 1 65 (dk_at dksX4_tell_2 17 rfl rfl)
theorem dX4_tell_67 : decode cX4_tell 67 = .ok (.goto 19, 3) := dk_167 0 19 (dk_at dksX4_tell_2 20 rfl rfl)
theorem dX4_tell_70 : decode cX4_tell 70 = .ok (.aload_n 0, 1) := dk_42 (dk_at dksX4_tell_2 23 rfl rfl)
theorem dX4_tell_71 : decode cX4_tell 71 = .ok (.aload_n 0, 1) := dk_42 (dk_at dksX4_tell_3 0 rfl rfl)
theorem dX4_tell_72 : decode cX4_tell 72 = .ok (.aload_n 0, 1) := dk_42 (dk_at dksX4_tell_3 1 rfl rfl)
theorem dX4_tell_73 : decode cX4_tell 73 = .ok (.getfield 55, 3) := dk_180 0 55 (dk_at dksX4_tell_3 2 rfl rfl)
theorem dX4_tell_76 : decode cX4_tell 76 = .ok (.aload_n 0, 1) := dk_42 (dk_at dksX4_tell_3 5 rfl rfl)
theorem dX4_tell_77 : decode cX4_tell 77 = .ok (.getfield 58, 3) := dk_180 0 58 (dk_at dksX4_tell_3 6 rfl rfl)
theorem dX4_tell_80 : decode cX4_tell 80 = .ok (.invokevirtual 287, 3) := dk_182 1 31 (dk_at dksX4_tell_3 9 rfl rfl)
theorem dX4_tell_83 : decode cX4_tell 83 = .ok (.putfield 328, 3) := dk_181 1 72 (dk_at dksX4_tell_3 12 rfl rfl)
theorem dX4_tell_86 : decode cX4_tell 86 = .ok (.iload_n 1, 1) := dk_27 (dk_at dksX4_tell_3 15 rfl rfl)
theorem dX4_tell_87 : decode cX4_tell 87 = .ok (.ireturn, 1) := dk_172 (dk_at dksX4_tell_3 16 rfl rfl)
theorem q2535 : (Jvm.Cond.code ({ cls := "DebateHallModel", name := "read", desc := "()V" } : Jvm.MethodName) prog_25_method_17_code (5 : Nat) (Option.none : Option Jvm.ClassFile.FieldType)) ∈ lw_all := lw_g (lw_at lw_m11 55 rfl) rfl
theorem zk_X4_read : zz_cd yX4_read cX4_read 5 none none ∈ lw_all := q2535
theorem zy_X4_read : zz_yok yX4_read 0 = true := by decide +kernel
theorem zp_16_2 : zz_pok [16] 2 := zz_pok1 (zR_16, zT_16, 24) (by decide) rfl rfl
theorem q2554 : (Jvm.Cond.code ({ cls := "DebateHallModel", name := "isText", desc := "()Z" } : Jvm.MethodName) prog_25_method_29_code (1 : Nat) (Option.some Jvm.ClassFile.FieldType.boolean)) ∈ lw_all := lw_g (lw_at lw_m11 74 rfl) rfl
theorem zk_X4_isText : zz_cd yX4_isText cX4_isText 1 (some .boolean) none ∈ lw_all := q2554
theorem zy_X4_isText : zz_yok yX4_isText 0 = true := by decide +kernel
theorem q2637 : (Jvm.Cond.code ({ cls := "DebateHallModel$State", name := "become", desc := "(LDebateHallModel$State;)V" } : Jvm.MethodName) prog_26_method_3_code (2 : Nat) (Option.none : Option Jvm.ClassFile.FieldType)) ∈ lw_all := lw_g (lw_at lw_m11 157 rfl) rfl
theorem zk_X5_become : zz_cd yX5_become cX5_become 2 none none ∈ lw_all := q2637
theorem zy_X5_become : zz_yok yX5_become 1 = true := by decide +kernel
theorem q2646 : (Jvm.Cond.code ({ cls := "DebateHallModel", name := "carryOut", desc := "()I" } : Jvm.MethodName) prog_25_method_42_code (2 : Nat) (Option.some Jvm.ClassFile.FieldType.int)) ∈ lw_all := lw_g (lw_at lw_m11 166 rfl) rfl
theorem zk_X4_carryOut : zz_cd yX4_carryOut cX4_carryOut 2 (some .int) none ∈ lw_all := q2646
theorem zy_X4_carryOut : zz_yok yX4_carryOut 0 = true := by decide +kernel
theorem zp_16_15 : zz_pok [16] 15 := zz_pok1 (zR_16, zT_16, 24) (by decide) rfl rfl
theorem q2634 : (Jvm.Cond.methodLink "DebateHallModel" (321 : Nat) ({ cls := "DebateHallModel$State", name := "become", desc := "(LDebateHallModel$State;)V" } : Jvm.MethodName)) ∈ lw_all := lw_g (lw_at lw_m11 154 rfl) rfl
theorem q2635 : (Jvm.Cond.instanceMethod ({ cls := "DebateHallModel$State", name := "become", desc := "(LDebateHallModel$State;)V" } : Jvm.MethodName)) ∈ lw_all := lw_g (lw_at lw_m11 155 rfl) rfl
theorem q2636 : (Jvm.Cond.selects "DebateHallModel$State" ({ cls := "DebateHallModel$State", name := "become", desc := "(LDebateHallModel$State;)V" } : Jvm.MethodName) ({ cls := "DebateHallModel$State", name := "become", desc := "(LDebateHallModel$State;)V" } : Jvm.MethodName)) ∈ lw_all := lw_g (lw_at lw_m11 156 rfl) rfl
theorem q2643 : (Jvm.Cond.methodLink "DebateHallModel" (325 : Nat) ({ cls := "DebateHallModel", name := "carryOut", desc := "()I" } : Jvm.MethodName)) ∈ lw_all := lw_g (lw_at lw_m11 163 rfl) rfl
theorem q2645 : (Jvm.Cond.instanceMethod ({ cls := "DebateHallModel", name := "carryOut", desc := "()I" } : Jvm.MethodName)) ∈ lw_all := lw_g (lw_at lw_m11 165 rfl) rfl
theorem q2551 : (Jvm.Cond.methodLink "DebateHallModel" (318 : Nat) ({ cls := "DebateHallModel", name := "isText", desc := "()Z" } : Jvm.MethodName)) ∈ lw_all := lw_g (lw_at lw_m11 71 rfl) rfl
theorem q2553 : (Jvm.Cond.instanceMethod ({ cls := "DebateHallModel", name := "isText", desc := "()Z" } : Jvm.MethodName)) ∈ lw_all := lw_g (lw_at lw_m11 73 rfl) rfl
theorem q2532 : (Jvm.Cond.methodLink "DebateHallModel" (315 : Nat) ({ cls := "DebateHallModel", name := "read", desc := "()V" } : Jvm.MethodName)) ∈ lw_all := lw_g (lw_at lw_m11 52 rfl) rfl
theorem q2534 : (Jvm.Cond.instanceMethod ({ cls := "DebateHallModel", name := "read", desc := "()V" } : Jvm.MethodName)) ∈ lw_all := lw_g (lw_at lw_m11 54 rfl) rfl
def wp_X4_tell_B86 (Z : zzG) (K : Option Value → zzM → Prop) (v1 : Int32) (M : zzM) : Prop := K (some (.int v1)) M
def wp_X4_tell (Z : zzG) (this : Option Nat) (M : zzM) (K : Option Value → zzM → Prop) : Prop := zput Z M this [16] 0 (.int (0 : Int32)) fun M1 => zput Z M1 this [16] 1 (.int (-1 : Int32)) fun M2 => zty Z M2 this fun t => t = 16 ∧ wp_X4_read Z this M2 (fun r3 M4 => zrV r3 (zput Z M4 this [16] 2 (.int (0 : Int32)) fun M7 => zty Z M7 this fun t => t = 16 ∧ wp_X4_isText Z this M7 (fun r8 M9 => zrI r8 fun x12 => if x12 = 0 then (zgI Z M9 this [16] 10 fun x38 => zty Z M9 this fun t => t = 16 ∧ wp_X4_fail Z this (1 : Int32) x38 M9 (fun r39 M40 => zrI r39 fun x43 => K (some (.int x43)) M40)) else (zgA Z M9 this [16] 12 fun x13 => zgA Z M9 this [16] 11 fun x14 => zty Z M9 x13 fun t => t = 17 ∧ wp_X5_become Z x13 x14 M9 (fun r15 M16 => zrV r15 (zty Z M16 this fun t => t = 16 ∧ wp_X4_carryOut Z this M16 (fun r19 M20 => zrI r19 fun x23 => if x23 ≤ 0 then (zgA Z M20 this [16] 13 fun x24 => zgA Z M20 this [16] 14 fun x25 => zty Z M20 this fun t => t = 16 ∧ wp_X4_stand Z this x24 x25 M20 (fun r26 M27 => zrI r26 fun x30 => zput Z M27 this [16] 15 (.int x30) fun M31 => wp_X4_tell_B86 Z K x23 M31)) else (zgA Z M20 this [16] 11 fun x32 => zgA Z M20 this [16] 12 fun x33 => zty Z M20 x32 fun t => t = 17 ∧ wp_X5_become Z x32 x33 M20 (fun r34 M35 => zrV r34 (wp_X4_tell_B86 Z K x23 M35))))))))))
theorem ok_X4_tell_B86 {G : zzX} (C : zz_C G cX4_tell "DebateHallModel" 2) {K : Option Value → zzM → Prop} (E : zz_E G (some .int) K (fun _ _ _ => False)) (hH : zz_H G []) (hR : zz_Rm G 72) {v1 : Int32} {M : zzM} {bc bs : Nat} (hw : wp_X4_tell_B86 (zz_Zof G) K v1 M) : zz_T G 2 M bc bs 86 [(1, .int v1)] [] := by
  unfold wp_X4_tell_B86 at hw
  refine zz_iload_n C dX4_tell_86 rfl 0 rfl ?_
  exact zz_iret C E dX4_tell_87 hw
theorem ok_X4_tell {Z : zzG} {l : Launch} (hl : l.stackTraces = false) {this : Option Nat} {M : zzM} {mc ms : Nat} {K : Option Value → zzM → Prop} (hw : wp_X4_tell Z this M K) : zz_Met Z l yX4_tell (zz_ws yX4_tell cX4_tell 2 (some .int) none) 72 [va_rf this] M mc ms K (fun _ _ _ => False) := by
  refine zz_ofW hl (plainFor_of_name (by decide)) (by simp only [zz_sl0, zz_slI, zz_slJ, zz_slA] <;> decide) (fun G hZ hll C E hH hR hin => ?_)
  subst hZ
  subst hll
  rw [show lv_args 0 [va_rf this] = [(0, va_rf this)] by simp only [zz_la0, zz_laI, zz_laJ, zz_laA]]
  unfold wp_X4_tell at hw
  refine zz_aload_n C dX4_tell_0 rfl 0 rfl ?_
  refine zz_iconst (v := (0 : Int32)) C dX4_tell_1 (by decide) ?_
  refine zz_put C dX4_tell_2 (Or.inl q2436) zf_16_0_ebateHallModel zp_16_0 (zz_hn1 ⟨rfl, rfl⟩) hw (fun M1 hw => ?_)
  refine zz_aload_n C dX4_tell_5 rfl 0 rfl ?_
  refine zz_iconst (v := (-1 : Int32)) C dX4_tell_6 (by decide) ?_
  refine zz_put C dX4_tell_7 (Or.inl q2437) zf_16_1_ebateHallModel zp_16_1 (zz_hn1 ⟨rfl, rfl⟩) hw (fun M2 hw => ?_)
  refine zz_aload_n C dX4_tell_10 rfl 0 rfl ?_
  obtain ⟨a9, t9, b9, fs9, hro, hL, rfl, hw⟩ := ztyS hw
  refine zz_callV (r := (zR_16, zT_16, 24)) (As := []) (rest := []) (mc := 0) (ms := 0) C hR hro dX4_tell_11 (Or.inl q2532) q2534 (Or.inl qs33) zl_DebateHallModel zk_X4_read (Or.inl rfl) zy_X4_read rfl (by decide) (by decide) hL (ok_X4_read (zz_hl C) hw) (Nat.zero_le _) (Nat.zero_le _) (zz_cat10 _ (Nat.le_of_ble_eq_true rfl)) (fun r3 M4 hw => zz_kV hw (fun hw => ?_)) (fun _ _ _ h9 => h9.elim) rfl
  refine zz_aload_n C dX4_tell_14 rfl 0 rfl ?_
  refine zz_iconst (v := (0 : Int32)) C dX4_tell_15 (by decide) ?_
  refine zz_put C dX4_tell_16 (Or.inl q2438) zf_16_2_ebateHallModel zp_16_2 (zz_hn1 ⟨rfl, rfl⟩) hw (fun M7 hw => ?_)
  refine zz_aload_n C dX4_tell_19 rfl 0 rfl ?_
  obtain ⟨a9, t9, b9, fs9, hro, hL, rfl, hw⟩ := ztyS hw
  refine zz_callV (r := (zR_16, zT_16, 24)) (As := []) (rest := []) (mc := 0) (ms := 0) C hR hro dX4_tell_20 (Or.inl q2551) q2553 (Or.inl qs35) zl_DebateHallModel zk_X4_isText (Or.inl rfl) zy_X4_isText rfl (by decide) (by decide) hL (ok_X4_isText (zz_hl C) hw) (Nat.zero_le _) (Nat.zero_le _) (zz_cat10 _ (Nat.le_of_ble_eq_true rfl)) (fun r8 M9 hw => zz_kI hw (fun x12 hw => ?_)) (fun _ _ _ h9 => h9.elim) rfl
  refine zz_if_ne (tgt := 36) C dX4_tell_23 (by decide) hw (fun hw => ?_) (fun hw => ?_)
  · refine zz_aload_n C dX4_tell_36 rfl 0 rfl ?_
    refine zz_getA C dX4_tell_37 (Or.inl q2448) zf_16_12_ebateHallModel hw (fun x13 hw => ?_)
    refine zz_aload_n C dX4_tell_40 rfl 0 rfl ?_
    refine zz_getA C dX4_tell_41 (Or.inl q2447) zf_16_11_ebateHallModel hw (fun x14 hw => ?_)
    obtain ⟨a9, t9, b9, fs9, hro, hL, rfl, hw⟩ := ztyS hw
    refine zz_callV (r := (zR_17, zT_17, 12)) (As := [va_rf x14]) (rest := []) (mc := 0) (ms := 0) C hR hro dX4_tell_44 (Or.inl q2634) q2635 (Or.inl q2636) zl_DebateHallModel_State zk_X5_become (Or.inl rfl) zy_X5_become rfl (by decide) (by decide) hL (ok_X5_become (zz_hl C) hw) (Nat.zero_le _) (Nat.zero_le _) (zz_cat10 _ (Nat.le_of_ble_eq_true rfl)) (fun r15 M16 hw => zz_kV hw (fun hw => ?_)) (fun _ _ _ h9 => h9.elim) rfl
    refine zz_aload_n C dX4_tell_47 rfl 0 rfl ?_
    obtain ⟨a9, t9, b9, fs9, hro, hL, rfl, hw⟩ := ztyS hw
    refine zz_callV (r := (zR_16, zT_16, 24)) (As := []) (rest := []) (mc := 0) (ms := 0) C hR hro dX4_tell_48 (Or.inl q2643) q2645 (Or.inl qs49) zl_DebateHallModel zk_X4_carryOut (Or.inl rfl) zy_X4_carryOut rfl (by decide) (by decide) hL (ok_X4_carryOut (zz_hl C) hw) (Nat.zero_le _) (Nat.zero_le _) (zz_cat10 _ (Nat.le_of_ble_eq_true rfl)) (fun r19 M20 hw => zz_kI hw (fun x23 hw => ?_)) (fun _ _ _ h9 => h9.elim) rfl
    refine zz_istore_n (i := 1) (lv' := [(1, .int x23), (0, va_rf this)]) C dX4_tell_51 rfl (by decide) (by simp [zz_cat, zz_catI, zz_catJ, zz_catD]) ?_
    refine zz_iload_n C dX4_tell_52 rfl 0 rfl ?_
    refine zz_if_le (tgt := 70) C dX4_tell_53 (by decide) hw (fun hw => ?_) (fun hw => ?_)
    · refine zz_aload_n C dX4_tell_70 rfl 1 rfl ?_
      refine zz_aload_n C dX4_tell_71 rfl 1 rfl ?_
      refine zz_aload_n C dX4_tell_72 rfl 1 rfl ?_
      refine zz_getA C dX4_tell_73 (Or.inl q2449) zf_16_13_ebateHallModel hw (fun x24 hw => ?_)
      refine zz_aload_n C dX4_tell_76 rfl 1 rfl ?_
      refine zz_getA C dX4_tell_77 (Or.inl q2450) zf_16_14_ebateHallModel hw (fun x25 hw => ?_)
      obtain ⟨a9, t9, b9, fs9, hro, hL, rfl, hw⟩ := ztyS hw
      refine zz_callV (r := (zR_16, zT_16, 24)) (As := [va_rf x24, va_rf x25]) (rest := [va_rf this]) (mc := 0) (ms := 0) C hR hro dX4_tell_80 (Or.inl q2688) q2690 (Or.inl qs57) zl_DebateHallModel zk_X4_stand (Or.inl rfl) zy_X4_stand rfl (by decide) (by decide) hL (ok_X4_stand (zz_hl C) hw) (Nat.zero_le _) (Nat.zero_le _) (zz_cat10 _ (Nat.le_of_ble_eq_true rfl)) (fun r26 M27 hw => zz_kI hw (fun x30 hw => ?_)) (fun _ _ _ h9 => h9.elim) rfl
      refine zz_put C dX4_tell_83 (Or.inl q2451) zf_16_15_ebateHallModel zp_16_15 (zz_hn1 ⟨rfl, rfl⟩) hw (fun M31 hw => ?_)
      refine zz_subP [0] rfl ?_
      exact ok_X4_tell_B86 C E hH hR hw
    · refine zz_aload_n C dX4_tell_56 rfl 1 rfl ?_
      refine zz_getA C dX4_tell_57 (Or.inl q2447) zf_16_11_ebateHallModel hw (fun x32 hw => ?_)
      refine zz_aload_n C dX4_tell_60 rfl 1 rfl ?_
      refine zz_getA C dX4_tell_61 (Or.inl q2448) zf_16_12_ebateHallModel hw (fun x33 hw => ?_)
      obtain ⟨a9, t9, b9, fs9, hro, hL, rfl, hw⟩ := ztyS hw
      refine zz_callV (r := (zR_17, zT_17, 12)) (As := [va_rf x33]) (rest := []) (mc := 0) (ms := 0) C hR hro dX4_tell_64 (Or.inl q2634) q2635 (Or.inl q2636) zl_DebateHallModel_State zk_X5_become (Or.inl rfl) zy_X5_become rfl (by decide) (by decide) hL (ok_X5_become (zz_hl C) hw) (Nat.zero_le _) (Nat.zero_le _) (zz_cat10 _ (Nat.le_of_ble_eq_true rfl)) (fun r34 M35 hw => zz_kV hw (fun hw => ?_)) (fun _ _ _ h9 => h9.elim) rfl
      refine zz_goto (tgt := 86) C dX4_tell_67 (by decide) ?_
      refine zz_subP [0] rfl ?_
      exact ok_X4_tell_B86 C E hH hR hw
  · refine zz_aload_n C dX4_tell_26 rfl 0 rfl ?_
    refine zz_iconst (v := (1 : Int32)) C dX4_tell_27 (by decide) ?_
    refine zz_aload_n C dX4_tell_28 rfl 0 rfl ?_
    refine zz_getI C dX4_tell_29 (Or.inl q2446) zf_16_10_ebateHallModel hw (fun x38 hw => ?_)
    obtain ⟨a9, t9, b9, fs9, hro, hL, rfl, hw⟩ := ztyS hw
    refine zz_callV (r := (zR_16, zT_16, 24)) (As := [.int (1 : Int32), .int x38]) (rest := []) (mc := 0) (ms := 0) C hR hro dX4_tell_32 (Or.inl q2630) q2632 (Or.inl qs47) zl_DebateHallModel zk_X4_fail (Or.inl rfl) zy_X4_fail rfl (by decide) (by decide) hL (ok_X4_fail (zz_hl C) hw) (Nat.zero_le _) (Nat.zero_le _) (zz_cat10 _ (Nat.le_of_ble_eq_true rfl)) (fun r39 M40 hw => zz_kI hw (fun x43 hw => ?_)) (fun _ _ _ h9 => h9.elim) rfl
    exact zz_iret C E dX4_tell_35 hw
abbrev cX1_trim : ByteArray := prog_1_method_9_code
def yX1_trim : MethodName := ⟨"DebateHall", "trim", "(I)I"⟩
def dkwX1_trim_0 : List UInt8 := [3, 42, 180, 0, 25, 180, 0, 70, 27, 184, 0, 79, 42, 180, 0, 25, 27, 181, 0, 70, 27, 172]
abbrev dktX1_trim_0 : List UInt8 := dkwX1_trim_0 ++ []
theorem dksX1_trim_0 : cX1_trim.data.toList.drop 0 = dktX1_trim_0 := by decide +kernel
theorem dX1_trim_0 : decode cX1_trim 0 = .ok (.iconst 0, 1) := dk_3 (dk_at dksX1_trim_0 0 rfl rfl)
theorem dX1_trim_1 : decode cX1_trim 1 = .ok (.aload_n 0, 1) := dk_42 (dk_at dksX1_trim_0 1 rfl rfl)
theorem dX1_trim_2 : decode cX1_trim 2 = .ok (.getfield 25, 3) := dk_180 0 25 (dk_at dksX1_trim_0 2 rfl rfl)
theorem dX1_trim_5 : decode cX1_trim 5 = .ok (.getfield 70, 3) := dk_180 0 70 (dk_at dksX1_trim_0 5 rfl rfl)
theorem dX1_trim_8 : decode cX1_trim 8 = .ok (.iload_n 1, 1) := dk_27 (dk_at dksX1_trim_0 8 rfl rfl)
theorem dX1_trim_9 : decode cX1_trim 9 = .ok (.invokestatic 79, 3) := dk_184 0 79 (dk_at dksX1_trim_0 9 rfl rfl)
theorem dX1_trim_12 : decode cX1_trim 12 = .ok (.aload_n 0, 1) := dk_42 (dk_at dksX1_trim_0 12 rfl rfl)
theorem dX1_trim_13 : decode cX1_trim 13 = .ok (.getfield 25, 3) := dk_180 0 25 (dk_at dksX1_trim_0 13 rfl rfl)
theorem dX1_trim_16 : decode cX1_trim 16 = .ok (.iload_n 1, 1) := dk_27 (dk_at dksX1_trim_0 16 rfl rfl)
theorem dX1_trim_17 : decode cX1_trim 17 = .ok (.putfield 70, 3) := dk_181 0 70 (dk_at dksX1_trim_0 17 rfl rfl)
theorem dX1_trim_20 : decode cX1_trim 20 = .ok (.iload_n 1, 1) := dk_27 (dk_at dksX1_trim_0 20 rfl rfl)
theorem dX1_trim_21 : decode cX1_trim 21 = .ok (.ireturn, 1) := dk_172 (dk_at dksX1_trim_0 21 rfl rfl)
def wp_X1_trim (Z : zzG) (this : Option Nat) (p0 : Int32) (M : zzM) (bc bs : Nat) (K : Option Value → zzM → Prop) (X : Nat → Nat → zzM → Prop) : Prop := zgA Z M this [0] 0 fun x1 => zgI Z M x1 [1] 1 fun x2 => zcx bc bs (fun c s k x => wp_X1_requireFrom Z (0 : Int32) x2 p0 M c s k x) (fun r3 M4 bc5 bs6 => zrV r3 (zgA Z M4 this [0] 0 fun x7 => zput Z M4 x7 [1] 1 (.int p0) fun M8 => K (some (.int p0)) M8)) (fun t q M _ _ => X t q M)
theorem ok_X1_trim {Z : zzG} {l : Launch} (hl : l.stackTraces = false) {this : Option Nat} {p0 : Int32} {M : zzM} {mc ms : Nat} {K : Option Value → zzM → Prop} {X : Nat → Nat → zzM → Prop} (hw : wp_X1_trim Z this p0 M mc ms K X) : zz_Met Z l yX1_trim (zz_ws yX1_trim cX1_trim 2 (some .int) none) 8 [va_rf this, .int p0] M mc ms K X := by
  refine zz_ofW hl (plainFor_of_name (by decide)) (by simp only [zz_sl0, zz_slI, zz_slJ, zz_slA] <;> decide) (fun G hZ hll C E hH hR hin => ?_)
  subst hZ
  subst hll
  rw [show lv_args 0 [va_rf this, .int p0] = [(0, va_rf this), (1, .int p0)] by simp only [zz_la0, zz_laI, zz_laJ, zz_laA]]
  unfold wp_X1_trim at hw
  refine zz_iconst (v := (0 : Int32)) C dX1_trim_0 (by decide) ?_
  refine zz_aload_n C dX1_trim_1 rfl 0 rfl ?_
  refine zz_getA C dX1_trim_2 (Or.inl q303) zf_0_0_DebateHall hw (fun x1 hw => ?_)
  refine zz_getI C dX1_trim_5 (Or.inr ⟨_, q157⟩) zf_1_1_ebateHall_Tape hw (fun x2 hw => ?_)
  refine zz_iload_n C dX1_trim_8 rfl 1 rfl ?_
  obtain ⟨c9, s9, hc9, hs9, hw⟩ := hw
  refine zz_callS (As := [.int (0 : Int32), .int x2, .int p0]) (rest := []) C hR dX1_trim_9 (Or.inl q2251) q2252 zl_DebateHall zk_X1_requireFrom (Or.inl rfl) zy_X1_requireFrom (by decide) (by decide) (ok_X1_requireFrom (zz_hl C) hw) hc9 hs9 (zz_cat10 _ (Nat.le_of_ble_eq_true rfl)) (fun r3 M4 hw => zz_kV hw (fun hw => ?_)) (fun t9 q9 M10 hx => ?_) rfl
  · refine zz_aload_n C dX1_trim_12 rfl 0 rfl ?_
    refine zz_getA C dX1_trim_13 (Or.inl q303) zf_0_0_DebateHall hw (fun x7 hw => ?_)
    refine zz_iload_n C dX1_trim_16 rfl 1 rfl ?_
    refine zz_put C dX1_trim_17 (Or.inr ⟨_, q157⟩) zf_1_1_ebateHall_Tape zp_1_1 (zz_hn1 ⟨rfl, rfl⟩) hw (fun M8 hw => ?_)
    refine zz_iload_n C dX1_trim_20 rfl 1 rfl ?_
    exact zz_iret C E dX1_trim_21 hw
  · exact zz_out C E hH rfl hx
abbrev cX0_trim : ByteArray := method_4_code
def yX0_trim : MethodName := ⟨"DebateHallLaw", "trim", "(LDebateHall;I[J)I"⟩
def dkwX0_trim_0 : List UInt8 := [44, 3, 42, 27, 182, 0, 15, 133, 80, 167, 0, 6, 78, 4, 172, 3, 172]
abbrev dktX0_trim_0 : List UInt8 := dkwX0_trim_0 ++ []
theorem dksX0_trim_0 : cX0_trim.data.toList.drop 0 = dktX0_trim_0 := by decide +kernel
theorem dX0_trim_0 : decode cX0_trim 0 = .ok (.aload_n 2, 1) := dk_44 (dk_at dksX0_trim_0 0 rfl rfl)
theorem dX0_trim_1 : decode cX0_trim 1 = .ok (.iconst 0, 1) := dk_3 (dk_at dksX0_trim_0 1 rfl rfl)
theorem dX0_trim_2 : decode cX0_trim 2 = .ok (.aload_n 0, 1) := dk_42 (dk_at dksX0_trim_0 2 rfl rfl)
theorem dX0_trim_3 : decode cX0_trim 3 = .ok (.iload_n 1, 1) := dk_27 (dk_at dksX0_trim_0 3 rfl rfl)
theorem dX0_trim_4 : decode cX0_trim 4 = .ok (.invokevirtual 15, 3) := dk_182 0 15 (dk_at dksX0_trim_0 4 rfl rfl)
theorem dX0_trim_7 : decode cX0_trim 7 = .ok (.i2l, 1) := dk_133 (dk_at dksX0_trim_0 7 rfl rfl)
theorem dX0_trim_8 : decode cX0_trim 8 = .ok (.lastore, 1) := dk_80 (dk_at dksX0_trim_0 8 rfl rfl)
theorem dX0_trim_9 : decode cX0_trim 9 = .ok (.goto 6, 3) := dk_167 0 6 (dk_at dksX0_trim_0 9 rfl rfl)
theorem dX0_trim_12 : decode cX0_trim 12 = .ok (.astore_n 3, 1) := dk_78 (dk_at dksX0_trim_0 12 rfl rfl)
theorem dX0_trim_13 : decode cX0_trim 13 = .ok (.iconst 1, 1) := dk_4 (dk_at dksX0_trim_0 13 rfl rfl)
theorem dX0_trim_14 : decode cX0_trim 14 = .ok (.ireturn, 1) := dk_172 (dk_at dksX0_trim_0 14 rfl rfl)
theorem dX0_trim_15 : decode cX0_trim 15 = .ok (.iconst 0, 1) := dk_3 (dk_at dksX0_trim_0 15 rfl rfl)
theorem dX0_trim_16 : decode cX0_trim 16 = .ok (.ireturn, 1) := dk_172 (dk_at dksX0_trim_0 16 rfl rfl)
theorem q2250 : (Jvm.Cond.code ({ cls := "DebateHall", name := "trim", desc := "(I)I" } : Jvm.MethodName) prog_1_method_9_code (2 : Nat) (Option.some Jvm.ClassFile.FieldType.int)) ∈ lw_all := lw_g (lw_at lw_m10 10 rfl) rfl
theorem zk_X1_trim : zz_cd yX1_trim cX1_trim 2 (some .int) none ∈ lw_all := q2250
theorem zy_X1_trim : zz_yok yX1_trim 1 = true := by decide +kernel
theorem q2247 : (Jvm.Cond.methodLink "DebateHallLaw" (15 : Nat) ({ cls := "DebateHall", name := "trim", desc := "(I)I" } : Jvm.MethodName)) ∈ lw_all := lw_g (lw_at lw_m10 7 rfl) rfl
theorem q2248 : (Jvm.Cond.instanceMethod ({ cls := "DebateHall", name := "trim", desc := "(I)I" } : Jvm.MethodName)) ∈ lw_all := lw_g (lw_at lw_m10 8 rfl) rfl
theorem q2249 : (Jvm.Cond.selects "DebateHall" ({ cls := "DebateHall", name := "trim", desc := "(I)I" } : Jvm.MethodName) ({ cls := "DebateHall", name := "trim", desc := "(I)I" } : Jvm.MethodName)) ∈ lw_all := lw_g (lw_at lw_m10 9 rfl) rfl
def wp_X0_trim_B12 (Z : zzG) (K : Option Value → zzM → Prop) (s0 : Option Nat) (M : zzM) (bc bs : Nat) : Prop := K (some (.int (1 : Int32))) M
def wp_X0_trim (Z : zzG) (p0 : Option Nat) (p1 : Int32) (p2 : Option Nat) (M : zzM) (bc bs : Nat) (K : Option Value → zzM → Prop) : Prop := zty Z M p0 fun t => t = 0 ∧ zcx bc bs (fun c s k x => wp_X1_trim Z p0 p1 M c s k x) (fun r1 M2 bc3 bs4 => zrI r1 fun x5 => zast Z M2 p2 [102] (0 : Int32) (.long x5.toInt64) fun M6 => K (some (.int (0 : Int32))) M6) (fun t q7 M8 bc9 bs10 => if t = 27 then (wp_X0_trim_B12 Z K (some q7) M8 bc9 bs10) else False)
theorem ok_X0_trim_B12 {G : zzX} (C : zz_C G cX0_trim "DebateHallLaw" 4) {K : Option Value → zzM → Prop} (E : zz_E G (some .int) K (fun _ _ _ => False)) (hH : zz_H G [(0, 9, 12, 19)]) (hR : zz_Rm G 9) {s0 : Option Nat} {M : zzM} {bc bs : Nat} (hw : wp_X0_trim_B12 (zz_Zof G) K s0 M bc bs) : zz_T G 4 M bc bs 12 [] [va_rf s0] := by
  unfold wp_X0_trim_B12 at hw
  refine zz_astore_n (i := 3) (lv' := [(3, va_rf s0)]) C dX0_trim_12 rfl (by decide) rfl ?_
  refine zz_iconst (v := (1 : Int32)) C dX0_trim_13 (by decide) ?_
  exact zz_iret C E dX0_trim_14 hw
theorem ok_X0_trim {Z : zzG} {l : Launch} (hl : l.stackTraces = false) {p0 : Option Nat} {p1 : Int32} {p2 : Option Nat} {M : zzM} {mc ms : Nat} {K : Option Value → zzM → Prop} (hw : wp_X0_trim Z p0 p1 p2 M mc ms K) : zz_Met Z l yX0_trim (zz_ws yX0_trim cX0_trim 4 (some .int) (some [(0, 9, 12, 19)])) 9 [va_rf p0, .int p1, va_rf p2] M mc ms K (fun _ _ _ => False) := by
  refine zz_ofW hl (plainFor_of_name (by decide)) (by simp only [zz_sl0, zz_slI, zz_slJ, zz_slA] <;> decide) (fun G hZ hll C E hH hR hin => ?_)
  subst hZ
  subst hll
  rw [show lv_args 0 [va_rf p0, .int p1, va_rf p2] = [(0, va_rf p0), (1, .int p1), (2, va_rf p2)] by simp only [zz_la0, zz_laI, zz_laJ, zz_laA]]
  unfold wp_X0_trim at hw
  refine zz_aload_n C dX0_trim_0 rfl 2 rfl ?_
  refine zz_iconst (v := (0 : Int32)) C dX0_trim_1 (by decide) ?_
  refine zz_aload_n C dX0_trim_2 rfl 0 rfl ?_
  refine zz_iload_n C dX0_trim_3 rfl 1 rfl ?_
  obtain ⟨a9, t9, b9, fs9, hro, hL, rfl, hw⟩ := ztyS hw
  obtain ⟨c9, s9, hc9, hs9, hw⟩ := hw
  refine zz_callV (r := (zR_0, zT_0, 4)) (As := [.int p1]) (rest := [.int (0 : Int32), va_rf p2]) C hR hro dX0_trim_4 (Or.inl q2247) q2248 (Or.inl q2249) zl_DebateHall zk_X1_trim (Or.inl rfl) zy_X1_trim rfl (by decide) (by decide) hL (ok_X1_trim (zz_hl C) hw) hc9 hs9 (zz_cat10 _ (Nat.le_of_ble_eq_true rfl)) (fun r1 M2 hw => zz_kI hw (fun x5 hw => ?_)) (fun t9 q7 M8 hw => ?_) rfl
  · refine zz_i2l C dX0_trim_7 ?_
    refine zz_last C dX0_trim_8 hw (fun M6 hw => ?_)
    refine zz_goto (tgt := 15) C dX0_trim_9 (by decide) ?_
    refine zz_iconst (v := (0 : Int32)) C dX0_trim_15 (by decide) ?_
    exact zz_iret C E dX0_trim_16 hw
  · by_cases e27 : t9 = 27
    · replace hw := zz_ifp e27 hw
      subst e27
      refine zz_catch (r := (zR_27, zT_27, 0)) C hH rfl [] (0, 9, 12, 19) [] rfl (fun _ h9 => absurd h9 List.not_mem_nil) rfl (by decide) q2246 q533 ?_
      refine zz_subP [] rfl ?_
      exact ok_X0_trim_B12 C E hH hR hw
    · replace hw := zz_ifn e27 hw
      exact hw.elim
abbrev cX4_trim : ByteArray := prog_25_method_44_code
def yX4_trim : MethodName := ⟨"DebateHallModel", "trim", "(I)I"⟩
def dkwX4_trim_1 : List UInt8 := [27, 181, 0, 145, 27, 172]
abbrev dktX4_trim_1 : List UInt8 := dkwX4_trim_1 ++ []
def dkwX4_trim_0 : List UInt8 := [42, 3, 181, 0, 85, 27, 3, 42, 180, 0, 145, 184, 0, 91, 154, 0, 9, 42, 4, 182, 1, 56, 172, 42]
abbrev dktX4_trim_0 : List UInt8 := dkwX4_trim_0 ++ dktX4_trim_1
theorem dksX4_trim_0 : cX4_trim.data.toList.drop 0 = dktX4_trim_0 := by decide +kernel
theorem dksX4_trim_1 : cX4_trim.data.toList.drop 24 = dktX4_trim_1 := dk_seg dksX4_trim_0 24 rfl rfl
theorem dX4_trim_0 : decode cX4_trim 0 = .ok (.aload_n 0, 1) := dk_42 (dk_at dksX4_trim_0 0 rfl rfl)
theorem dX4_trim_1 : decode cX4_trim 1 = .ok (.iconst 0, 1) := dk_3 (dk_at dksX4_trim_0 1 rfl rfl)
theorem dX4_trim_2 : decode cX4_trim 2 = .ok (.putfield 85, 3) := dk_181 0 85 (dk_at dksX4_trim_0 2 rfl rfl)
theorem dX4_trim_5 : decode cX4_trim 5 = .ok (.iload_n 1, 1) := dk_27 (dk_at dksX4_trim_0 5 rfl rfl)
theorem dX4_trim_6 : decode cX4_trim 6 = .ok (.iconst 0, 1) := dk_3 (dk_at dksX4_trim_0 6 rfl rfl)
theorem dX4_trim_7 : decode cX4_trim 7 = .ok (.aload_n 0, 1) := dk_42 (dk_at dksX4_trim_0 7 rfl rfl)
theorem dX4_trim_8 : decode cX4_trim 8 = .ok (.getfield 145, 3) := dk_180 0 145 (dk_at dksX4_trim_0 8 rfl rfl)
theorem dX4_trim_11 : decode cX4_trim 11 = .ok (.invokestatic 91, 3) := dk_184 0 91 (dk_at dksX4_trim_0 11 rfl rfl)
theorem dX4_trim_14 : decode cX4_trim 14 = .ok (.ifCond .ne 9, 3) := dk_154 0 9 (dk_at dksX4_trim_0 14 rfl rfl)
theorem dX4_trim_17 : decode cX4_trim 17 = .ok (.aload_n 0, 1) := dk_42 (dk_at dksX4_trim_0 17 rfl rfl)
theorem dX4_trim_18 : decode cX4_trim 18 = .ok (.iconst 1, 1) := dk_4 (dk_at dksX4_trim_0 18 rfl rfl)
theorem dX4_trim_19 : decode cX4_trim 19 = .ok (.invokevirtual 312, 3) := dk_182 1 56 (dk_at dksX4_trim_0 19 rfl rfl)
theorem dX4_trim_22 : decode cX4_trim 22 = .ok (.ireturn, 1) := dk_172 (dk_at dksX4_trim_0 22 rfl rfl)
theorem dX4_trim_23 : decode cX4_trim 23 = .ok (.aload_n 0, 1) := dk_42 (dk_at dksX4_trim_0 23 rfl rfl)
theorem dX4_trim_24 : decode cX4_trim 24 = .ok (.iload_n 1, 1) := dk_27 (dk_at dksX4_trim_1 0 rfl rfl)
theorem dX4_trim_25 : decode cX4_trim 25 = .ok (.putfield 145, 3) := dk_181 0 145 (dk_at dksX4_trim_1 1 rfl rfl)
theorem dX4_trim_28 : decode cX4_trim 28 = .ok (.iload_n 1, 1) := dk_27 (dk_at dksX4_trim_1 4 rfl rfl)
theorem dX4_trim_29 : decode cX4_trim 29 = .ok (.ireturn, 1) := dk_172 (dk_at dksX4_trim_1 5 rfl rfl)
def wp_X4_trim (Z : zzG) (this : Option Nat) (p0 : Int32) (M : zzM) (K : Option Value → zzM → Prop) : Prop := zput Z M this [16] 0 (.int (0 : Int32)) fun M1 => zgI Z M1 this [16] 2 fun x2 => wp_X4_isIn Z p0 (0 : Int32) x2 M1 (fun r3 M4 => zrI r3 fun x7 => if x7 = 0 then (zty Z M4 this fun t => t = 16 ∧ wp_X4_no Z this (1 : Int32) M4 (fun r9 M10 => zrI r9 fun x13 => K (some (.int x13)) M10)) else (zput Z M4 this [16] 2 (.int p0) fun M8 => K (some (.int p0)) M8))
theorem ok_X4_trim {Z : zzG} {l : Launch} (hl : l.stackTraces = false) {this : Option Nat} {p0 : Int32} {M : zzM} {mc ms : Nat} {K : Option Value → zzM → Prop} (hw : wp_X4_trim Z this p0 M K) : zz_Met Z l yX4_trim (zz_ws yX4_trim cX4_trim 2 (some .int) none) 2 [va_rf this, .int p0] M mc ms K (fun _ _ _ => False) := by
  refine zz_ofW hl (plainFor_of_name (by decide)) (by simp only [zz_sl0, zz_slI, zz_slJ, zz_slA] <;> decide) (fun G hZ hll C E hH hR hin => ?_)
  subst hZ
  subst hll
  rw [show lv_args 0 [va_rf this, .int p0] = [(0, va_rf this), (1, .int p0)] by simp only [zz_la0, zz_laI, zz_laJ, zz_laA]]
  unfold wp_X4_trim at hw
  refine zz_aload_n C dX4_trim_0 rfl 0 rfl ?_
  refine zz_iconst (v := (0 : Int32)) C dX4_trim_1 (by decide) ?_
  refine zz_put C dX4_trim_2 (Or.inl q2436) zf_16_0_ebateHallModel zp_16_0 (zz_hn1 ⟨rfl, rfl⟩) hw (fun M1 hw => ?_)
  refine zz_iload_n C dX4_trim_5 rfl 1 rfl ?_
  refine zz_iconst (v := (0 : Int32)) C dX4_trim_6 (by decide) ?_
  refine zz_aload_n C dX4_trim_7 rfl 0 rfl ?_
  refine zz_getI C dX4_trim_8 (Or.inl q2438) zf_16_2_ebateHallModel hw (fun x2 hw => ?_)
  refine zz_callS (As := [.int p0, .int (0 : Int32), .int x2]) (rest := []) (mc := 0) (ms := 0) C hR dX4_trim_11 (Or.inl q2525) q2526 zl_DebateHallModel zk_X4_isIn (Or.inl rfl) zy_X4_isIn (by decide) (by decide) (ok_X4_isIn (zz_hl C) hw) (Nat.zero_le _) (Nat.zero_le _) (zz_cat10 _ (Nat.le_of_ble_eq_true rfl)) (fun r3 M4 hw => zz_kI hw (fun x7 hw => ?_)) (fun _ _ _ h9 => h9.elim) rfl
  refine zz_if_ne (tgt := 23) C dX4_trim_14 (by decide) hw (fun hw => ?_) (fun hw => ?_)
  · refine zz_aload_n C dX4_trim_23 rfl 0 rfl ?_
    refine zz_iload_n C dX4_trim_24 rfl 1 rfl ?_
    refine zz_put C dX4_trim_25 (Or.inl q2438) zf_16_2_ebateHallModel zp_16_2 (zz_hn1 ⟨rfl, rfl⟩) hw (fun M8 hw => ?_)
    refine zz_iload_n C dX4_trim_28 rfl 1 rfl ?_
    exact zz_iret C E dX4_trim_29 hw
  · refine zz_aload_n C dX4_trim_17 rfl 0 rfl ?_
    refine zz_iconst (v := (1 : Int32)) C dX4_trim_18 (by decide) ?_
    obtain ⟨a9, t9, b9, fs9, hro, hL, rfl, hw⟩ := ztyS hw
    refine zz_callV (r := (zR_16, zT_16, 24)) (As := [.int (1 : Int32)]) (rest := []) (mc := 0) (ms := 0) C hR hro dX4_trim_19 (Or.inl q2517) q2519 (Or.inl qs32) zl_DebateHallModel zk_X4_no (Or.inl rfl) zy_X4_no rfl (by decide) (by decide) hL (ok_X4_no (zz_hl C) hw) (Nat.zero_le _) (Nat.zero_le _) (zz_cat10 _ (Nat.le_of_ble_eq_true rfl)) (fun r9 M10 hw => zz_kI hw (fun x13 hw => ?_)) (fun _ _ _ h9 => h9.elim) rfl
    exact zz_iret C E dX4_trim_22 hw
abbrev cX1_requireState : ByteArray := prog_1_method_2_code
def yX1_requireState : MethodName := ⟨"DebateHall", "requireState", "(Z)V"⟩
def dkwX1_requireState_0 : List UInt8 := [26, 154, 0, 11, 187, 0, 7, 89, 183, 0, 9, 191, 177]
abbrev dktX1_requireState_0 : List UInt8 := dkwX1_requireState_0 ++ []
theorem dksX1_requireState_0 : cX1_requireState.data.toList.drop 0 = dktX1_requireState_0 := by decide +kernel
theorem dX1_requireState_0 : decode cX1_requireState 0 = .ok (.iload_n 0, 1) := dk_26 (dk_at dksX1_requireState_0 0 rfl rfl)
theorem dX1_requireState_1 : decode cX1_requireState 1 = .ok (.ifCond .ne 11, 3) := dk_154 0 11 (dk_at dksX1_requireState_0 1 rfl rfl)
theorem dX1_requireState_4 : decode cX1_requireState 4 = .ok (.new 7, 3) := dk_187 0 7 (dk_at dksX1_requireState_0 4 rfl rfl)
theorem dX1_requireState_7 : decode cX1_requireState 7 = .ok (.dup, 1) := dk_89 (dk_at dksX1_requireState_0 7 rfl rfl)
theorem dX1_requireState_8 : decode cX1_requireState 8 = .ok (.invokespecial 9, 3) := dk_183 0 9 (dk_at dksX1_requireState_0 8 rfl rfl)
theorem dX1_requireState_11 : decode cX1_requireState 11 = .ok (.athrow, 1) := dk_191 (dk_at dksX1_requireState_0 11 rfl rfl)
theorem dX1_requireState_12 : decode cX1_requireState 12 = .ok (.return_, 1) := dk_177 (dk_at dksX1_requireState_0 12 rfl rfl)
theorem q2236 : (Jvm.Cond.methodLink "java/lang/IllegalStateException" (1 : Nat) ({ cls := "java/lang/RuntimeException", name := "<init>", desc := "()V" } : Jvm.MethodName)) ∈ lw_all := lw_g (lw_at lw_m9 236 rfl) rfl
theorem q2235 : (Jvm.Cond.code ({ cls := "java/lang/IllegalStateException", name := "<init>", desc := "()V" } : Jvm.MethodName) prog_38_method_1_code (1 : Nat) (Option.none : Option Jvm.ClassFile.FieldType)) ∈ lw_all := lw_g (lw_at lw_m9 235 rfl) rfl
theorem q2234 : (Jvm.Cond.instanceMethod ({ cls := "java/lang/IllegalStateException", name := "<init>", desc := "()V" } : Jvm.MethodName)) ∈ lw_all := lw_g (lw_at lw_m9 234 rfl) rfl
theorem zx_ch_java_lang_IllegalStateException : ∀ x ∈ Bundle.chain0Atoms "java/lang/IllegalStateException" ["java/lang/RuntimeException", "java/lang/Exception"], vx_no x = true → zz_hw x := (zz_hwA (zz_hwN (fun _ => Or.inl q2234) (zz_hwN (fun _ => Or.inl q2235) (zz_hwN (fun _ => Or.inl q2236) (zz_hwN (fun _ => Or.inl q2148) (zz_hwN (fun _ => Or.inr ⟨q534, rfl, rfl⟩) zz_hw0))))) (zz_hwA (zz_hwN (fun _ => Or.inl q2148) (zz_hwN (fun _ => Or.inl q2149) (zz_hwN (fun _ => Or.inl q2150) (zz_hwN (fun _ => Or.inl q928) (zz_hwN (fun _ => Or.inr ⟨q536, rfl, rfl⟩) zz_hw0))))) (zz_hwN (fun _ => Or.inl q928) (zz_hwN (fun _ => Or.inl q929) (zz_hwN (fun _ => Or.inl q930) (zz_hwN (fun _ => Or.inl q554) (zz_hwN (fun _ => Or.inr ⟨q538, rfl, rfl⟩) zz_hw0)))))))
theorem q2232 : (Jvm.Cond.lays "java/lang/IllegalStateException" "java/lang/Throwable" "backtrace" "Ljava/lang/Object;") ∈ lw_all := lw_g (lw_at lw_m9 232 rfl) rfl
theorem q2231 : (Jvm.Cond.lays "java/lang/IllegalStateException" "java/lang/Throwable" "detailMessage" "Ljava/lang/String;") ∈ lw_all := lw_g (lw_at lw_m9 231 rfl) rfl
theorem q2230 : (Jvm.Cond.lays "java/lang/IllegalStateException" "java/lang/Throwable" "suppressedExceptions" "Ljava/util/List;") ∈ lw_all := lw_g (lw_at lw_m9 230 rfl) rfl
theorem q2229 : (Jvm.Cond.lays "java/lang/IllegalStateException" "java/lang/Throwable" "stackTrace" "[Ljava/lang/StackTraceElement;") ∈ lw_all := lw_g (lw_at lw_m9 229 rfl) rfl
theorem q2228 : (Jvm.Cond.lays "java/lang/IllegalStateException" "java/lang/Throwable" "cause" "Ljava/lang/Throwable;") ∈ lw_all := lw_g (lw_at lw_m9 228 rfl) rfl
theorem q566 : (Jvm.Cond.selects "java/lang/IllegalStateException" ({ cls := "java/lang/Throwable", name := "fillInStackTrace", desc := "()Ljava/lang/Throwable;" } : Jvm.MethodName) ({ cls := "java/lang/Throwable", name := "fillInStackTrace", desc := "()Ljava/lang/Throwable;" } : Jvm.MethodName)) ∈ lw_all := lw_g (lw_at lw_m3 6 rfl) rfl
theorem q2227 : (Jvm.Cond.selects "java/lang/IllegalStateException" ({ cls := "java/lang/Throwable", name := "fillInStackTrace", desc := "(I)Ljava/lang/Throwable;" } : Jvm.MethodName) ({ cls := "java/lang/Throwable", name := "fillInStackTrace", desc := "(I)Ljava/lang/Throwable;" } : Jvm.MethodName)) ∈ lw_all := lw_g (lw_at lw_m9 227 rfl) rfl
theorem q2226 : (Jvm.Cond.castable "java/lang/IllegalStateException" "java/lang/IllegalStateException") ∈ lw_tbl := lw_at lw_m9 226 rfl
theorem q2233 : (Jvm.Cond.methodLink "DebateHall" (9 : Nat) ({ cls := "java/lang/IllegalStateException", name := "<init>", desc := "()V" } : Jvm.MethodName)) ∈ lw_all := lw_g (lw_at lw_m9 233 rfl) rfl
theorem zx_at_26_DebateHall : ∀ w ∈ vx_at0 "DebateHall" 9 "java/lang/IllegalStateException" ["java/lang/RuntimeException", "java/lang/Exception"], zz_hw w := zz_hwE (zz_hwA (zz_hwA zx_thr zx_ch_java_lang_IllegalStateException) (zz_hwN (fun _ => Or.inl q2233) (zz_hwN (fun _ => Or.inl q2225) (zz_hwN (fun _ => Or.inr ⟨q2226, rfl, rfl⟩) (zz_hwN (fun _ => Or.inl q2227) (zz_hwN (fun _ => Or.inl q566) (zz_hwN (fun _ => Or.inl q2228) (zz_hwN (fun _ => Or.inl q2229) (zz_hwN (fun _ => Or.inl q2230) (zz_hwN (fun _ => Or.inl q2231) (zz_hwN (fun h => absurd h (by decide)) (zz_hwN (fun h => absurd h (by decide)) (zz_hwN (fun _ => Or.inl q552) (zz_hwN (fun _ => Or.inl q551) (zz_hwN (fun _ => Or.inl q2232) zz_hw0)))))))))))))))
theorem q2224 : (Jvm.Cond.classLink "DebateHall" (7 : Nat) "java/lang/IllegalStateException") ∈ lw_all := lw_g (lw_at lw_m9 224 rfl) rfl
theorem q98 : (Jvm.Cond.initialized "java/lang/IllegalStateException") ∈ lw_all := lw_g (lw_at lw_m1 18 rfl) rfl
theorem zl_java_lang_IllegalStateException : Cond.initialized "java/lang/IllegalStateException" ∈ lw_all := q98
def wp_X1_requireState (Z : zzG) (p0 : Int32) (M : zzM) (bc bs : Nat) (K : Option Value → zzM → Prop) (X : Nat → Nat → zzM → Prop) : Prop := if p0 = 0 then (znew Z M bc bs 26 6 [] fun q1 M2 bc3 bs4 => X 26 q1 M2) else (K none M)
theorem ok_X1_requireState {Z : zzG} {l : Launch} (hl : l.stackTraces = false) {p0 : Int32} {M : zzM} {mc ms : Nat} {K : Option Value → zzM → Prop} {X : Nat → Nat → zzM → Prop} (hw : wp_X1_requireState Z p0 M mc ms K X) : zz_Met Z l yX1_requireState (zz_ws yX1_requireState cX1_requireState 1 none none) 6 [.int p0] M mc ms K X := by
  refine zz_ofW hl (plainFor_of_name (by decide)) (by simp only [zz_sl0, zz_slI, zz_slJ, zz_slA] <;> decide) (fun G hZ hll C E hH hR hin => ?_)
  subst hZ
  subst hll
  rw [show lv_args 0 [.int p0] = [(0, .int p0)] by simp only [zz_la0, zz_laI, zz_laJ, zz_laA]]
  unfold wp_X1_requireState at hw
  refine zz_iload_n C dX1_requireState_0 rfl 0 rfl ?_
  refine zz_if_ne (tgt := 12) C dX1_requireState_1 (by decide) hw (fun hw => ?_) (fun hw => ?_)
  · exact zz_vret C E dX1_requireState_12 hw
  · refine zz_throwX (names := ["java/lang/RuntimeException", "java/lang/Exception"]) (r := (zR_26, zT_26, 0)) C hR (by decide) rfl (by decide) rfl (by decide) (by decide) (by decide) dX1_requireState_4 dX1_requireState_7 dX1_requireState_8 dX1_requireState_11 q2224 zl_java_lang_IllegalStateException zx_at_26_DebateHall (zz_cat10 _ (Nat.le_of_ble_eq_true rfl)) hw (fun q1 M2 bc3 bs4 hw => ?_)
    exact zz_out C E hH rfl hw
abbrev cX2_put : ByteArray := prog_19_method_2_code
def yX2_put : MethodName := ⟨"DebateHall$Tape", "put", "(I)V"⟩
def dkwX2_put_1 : List UInt8 := [180, 0, 15, 4, 96, 181, 0, 15, 132, 2, 248, 167, 255, 226, 177]
abbrev dktX2_put_1 : List UInt8 := dkwX2_put_1 ++ []
def dkwX2_put_0 : List UInt8 := [16, 24, 61, 28, 155, 0, 32, 42, 180, 0, 9, 42, 180, 0, 15, 27, 28, 122, 145, 84, 42, 89]
abbrev dktX2_put_0 : List UInt8 := dkwX2_put_0 ++ dktX2_put_1
theorem dksX2_put_0 : cX2_put.data.toList.drop 0 = dktX2_put_0 := by decide +kernel
theorem dksX2_put_1 : cX2_put.data.toList.drop 22 = dktX2_put_1 := dk_seg dksX2_put_0 22 rfl rfl
theorem dX2_put_0 : decode cX2_put 0 = .ok (.bipush 24, 2) := dk_16 24 (dk_at dksX2_put_0 0 rfl rfl)
theorem dX2_put_2 : decode cX2_put 2 = .ok (.istore_n 2, 1) := dk_61 (dk_at dksX2_put_0 2 rfl rfl)
theorem dX2_put_3 : decode cX2_put 3 = .ok (.iload_n 2, 1) := dk_28 (dk_at dksX2_put_0 3 rfl rfl)
theorem dX2_put_4 : decode cX2_put 4 = .ok (.ifCond .lt 32, 3) := dk_155 0 32 (dk_at dksX2_put_0 4 rfl rfl)
theorem dX2_put_7 : decode cX2_put 7 = .ok (.aload_n 0, 1) := dk_42 (dk_at dksX2_put_0 7 rfl rfl)
theorem dX2_put_8 : decode cX2_put 8 = .ok (.getfield 9, 3) := dk_180 0 9 (dk_at dksX2_put_0 8 rfl rfl)
theorem dX2_put_11 : decode cX2_put 11 = .ok (.aload_n 0, 1) := dk_42 (dk_at dksX2_put_0 11 rfl rfl)
theorem dX2_put_12 : decode cX2_put 12 = .ok (.getfield 15, 3) := dk_180 0 15 (dk_at dksX2_put_0 12 rfl rfl)
theorem dX2_put_15 : decode cX2_put 15 = .ok (.iload_n 1, 1) := dk_27 (dk_at dksX2_put_0 15 rfl rfl)
theorem dX2_put_16 : decode cX2_put 16 = .ok (.iload_n 2, 1) := dk_28 (dk_at dksX2_put_0 16 rfl rfl)
theorem dX2_put_17 : decode cX2_put 17 = .ok (.ishr, 1) := dk_122 (dk_at dksX2_put_0 17 rfl rfl)
theorem dX2_put_18 : decode cX2_put 18 = .ok (.i2b, 1) := dk_145 (dk_at dksX2_put_0 18 rfl rfl)
theorem dX2_put_19 : decode cX2_put 19 = .ok (.bastore, 1) := dk_84 (dk_at dksX2_put_0 19 rfl rfl)
theorem dX2_put_20 : decode cX2_put 20 = .ok (.aload_n 0, 1) := dk_42 (dk_at dksX2_put_0 20 rfl rfl)
theorem dX2_put_21 : decode cX2_put 21 = .ok (.dup, 1) := dk_89 (dk_at dksX2_put_0 21 rfl rfl)
theorem dX2_put_22 : decode cX2_put 22 = .ok (.getfield 15, 3) := dk_180 0 15 (dk_at dksX2_put_1 0 rfl rfl)
theorem dX2_put_25 : decode cX2_put 25 = .ok (.iconst 1, 1) := dk_4 (dk_at dksX2_put_1 3 rfl rfl)
theorem dX2_put_26 : decode cX2_put 26 = .ok (.iadd, 1) := dk_96 (dk_at dksX2_put_1 4 rfl rfl)
theorem dX2_put_27 : decode cX2_put 27 = .ok (.putfield 15, 3) := dk_181 0 15 (dk_at dksX2_put_1 5 rfl rfl)
theorem dX2_put_30 : decode cX2_put 30 = .ok (.iinc 2 (-8), 3) := dk_132 2 248 (dk_at dksX2_put_1 8 rfl rfl)
theorem dX2_put_33 : decode cX2_put 33 = .ok (.goto (-30), 3) := dk_167 255 226 (dk_at dksX2_put_1 11 rfl rfl)
theorem dX2_put_36 : decode cX2_put 36 = .ok (.return_, 1) := dk_177 (dk_at dksX2_put_1 14 rfl rfl)
def wp_X2_put_L3 (Z : zzG) (K : Option Value → zzM → Prop) : Nat → Option Nat → Int32 → Int32 → zzM → Prop
  | 0, _, _, _, _ => False
  | n + 1, v0, v1, v2, M => if v2 < 0 then (K none M) else (zgA Z M v0 [1] 0 fun x1 => zgI Z M v0 [1] 1 fun x2 => zast Z M x1 [101] x2 (.int ((v1 >>> (v2 &&& 31)).toInt8.toInt32).toInt8.toInt32) fun M3 => zgI Z M3 v0 [1] 1 fun x4 => zput Z M3 v0 [1] 1 (.int (x4 + (1 : Int32))) fun M5 => wp_X2_put_L3 Z K n v0 v1 (v2 + (-8)) M5)
def wp_X2_put (Z : zzG) (this : Option Nat) (p0 : Int32) (M : zzM) (K : Option Value → zzM → Prop) : Prop := ∃ n3 : Nat, wp_X2_put_L3 Z K n3 this p0 (24 : Int32) M
theorem ok_X2_put_L3 {G : zzX} (C : zz_C G cX2_put "DebateHall$Tape" 3) {K : Option Value → zzM → Prop} (E : zz_E G none K (fun _ _ _ => False)) (hH : zz_H G []) (hR : zz_Rm G 1) : ∀ (n : Nat) (v0 : Option Nat) (v1 : Int32) (v2 : Int32) (M : zzM) (bc bs : Nat), wp_X2_put_L3 (zz_Zof G) K n v0 v1 v2 M → zz_T G 3 M bc bs 3 [(0, va_rf v0), (1, .int v1), (2, .int v2)] [] := by
  intro n
  induction n with
  | zero =>
    intro v0 v1 v2 M bc bs hw
    exact False.elim hw
  | succ n ih =>
    intro v0 v1 v2 M bc bs hw
    refine zz_iload_n C dX2_put_3 rfl 2 rfl ?_
    refine zz_if_lt (tgt := 36) C dX2_put_4 (by decide) hw (fun hw => ?_) (fun hw => ?_)
    · exact zz_vret C E dX2_put_36 hw
    · refine zz_aload_n C dX2_put_7 rfl 0 rfl ?_
      refine zz_getA C dX2_put_8 (Or.inl q154) zf_1_0_ebateHall_Tape hw (fun x1 hw => ?_)
      refine zz_aload_n C dX2_put_11 rfl 0 rfl ?_
      refine zz_getI C dX2_put_12 (Or.inl q155) zf_1_1_ebateHall_Tape hw (fun x2 hw => ?_)
      refine zz_iload_n C dX2_put_15 rfl 1 rfl ?_
      refine zz_iload_n C dX2_put_16 rfl 2 rfl ?_
      refine zz_ishr C dX2_put_17 ?_
      refine zz_i2b C dX2_put_18 ?_
      refine zz_bast C dX2_put_19 hw (fun M3 hw => ?_)
      refine zz_aload_n C dX2_put_20 rfl 0 rfl ?_
      refine zz_dup C dX2_put_21 (zz_cat _) ?_
      refine zz_getI C dX2_put_22 (Or.inl q155) zf_1_1_ebateHall_Tape hw (fun x4 hw => ?_)
      refine zz_iconst (v := (1 : Int32)) C dX2_put_25 (by decide) ?_
      refine zz_iadd C dX2_put_26 ?_
      refine zz_put C dX2_put_27 (Or.inl q155) zf_1_1_ebateHall_Tape zp_1_1 (zz_hn1 ⟨rfl, rfl⟩) hw (fun M5 hw => ?_)
      refine zz_iinc (lv' := [(2, .int (v2 + (-8))), (0, va_rf v0), (1, .int v1)]) C dX2_put_30 2 rfl (by rfl) (by decide) rfl ?_
      refine zz_goto (tgt := 3) C dX2_put_33 (by decide) ?_
      refine zz_subP [1, 2, 0] rfl ?_
      exact ih _ _ _ _ _ _ hw
theorem ok_X2_put {Z : zzG} {l : Launch} (hl : l.stackTraces = false) {this : Option Nat} {p0 : Int32} {M : zzM} {mc ms : Nat} {K : Option Value → zzM → Prop} (hw : wp_X2_put Z this p0 M K) : zz_Met Z l yX2_put (zz_ws yX2_put cX2_put 3 none none) 1 [va_rf this, .int p0] M mc ms K (fun _ _ _ => False) := by
  refine zz_ofW hl (plainFor_of_name (by decide)) (by simp only [zz_sl0, zz_slI, zz_slJ, zz_slA] <;> decide) (fun G hZ hll C E hH hR hin => ?_)
  subst hZ
  subst hll
  rw [show lv_args 0 [va_rf this, .int p0] = [(0, va_rf this), (1, .int p0)] by simp only [zz_la0, zz_laI, zz_laJ, zz_laA]]
  unfold wp_X2_put at hw
  refine zz_bipush (v := (24 : Int32)) C dX2_put_0 (by decide) ?_
  refine zz_istore_n (i := 2) (lv' := [(2, .int (24 : Int32)), (0, va_rf this), (1, .int p0)]) C dX2_put_2 rfl (by decide) rfl ?_
  refine zz_subP [1, 2, 0] rfl ?_
  obtain ⟨n3, hw⟩ := hw
  exact ok_X2_put_L3 C E hH hR n3 _ _ _ _ _ _ hw
abbrev cX1_feed : ByteArray := prog_1_method_8_code
def yX1_feed : MethodName := ⟨"DebateHall", "feed", "(IIIII)I"⟩
def dkwX1_feed_3 : List UInt8 := [180, 0, 70, 172]
abbrev dktX1_feed_3 : List UInt8 := dkwX1_feed_3 ++ []
def dkwX1_feed_2 : List UInt8 := [42, 180, 0, 25, 21, 4, 182, 0, 75, 42, 180, 0, 25, 21, 5, 182, 0, 75, 42, 180, 0, 25]
abbrev dktX1_feed_2 : List UInt8 := dkwX1_feed_2 ++ dktX1_feed_3
def dkwX1_feed_1 : List UInt8 := [42, 180, 0, 25, 27, 182, 0, 75, 42, 180, 0, 25, 28, 182, 0, 75, 42, 180, 0, 25, 29, 182, 0, 75]
abbrev dktX1_feed_1 : List UInt8 := dkwX1_feed_1 ++ dktX1_feed_2
def dkwX1_feed_0 : List UInt8 := [42, 180, 0, 25, 180, 0, 70, 16, 20, 96, 17, 7, 208, 163, 0, 7, 4, 167, 0, 4, 3, 184, 0, 72]
abbrev dktX1_feed_0 : List UInt8 := dkwX1_feed_0 ++ dktX1_feed_1
theorem dksX1_feed_0 : cX1_feed.data.toList.drop 0 = dktX1_feed_0 := by decide +kernel
theorem dksX1_feed_1 : cX1_feed.data.toList.drop 24 = dktX1_feed_1 := dk_seg dksX1_feed_0 24 rfl rfl
theorem dksX1_feed_2 : cX1_feed.data.toList.drop 48 = dktX1_feed_2 := dk_seg dksX1_feed_1 24 rfl rfl
theorem dksX1_feed_3 : cX1_feed.data.toList.drop 70 = dktX1_feed_3 := dk_seg dksX1_feed_2 22 rfl rfl
theorem dX1_feed_0 : decode cX1_feed 0 = .ok (.aload_n 0, 1) := dk_42 (dk_at dksX1_feed_0 0 rfl rfl)
theorem dX1_feed_1 : decode cX1_feed 1 = .ok (.getfield 25, 3) := dk_180 0 25 (dk_at dksX1_feed_0 1 rfl rfl)
theorem dX1_feed_4 : decode cX1_feed 4 = .ok (.getfield 70, 3) := dk_180 0 70 (dk_at dksX1_feed_0 4 rfl rfl)
theorem dX1_feed_7 : decode cX1_feed 7 = .ok (.bipush 20, 2) := dk_16 20 (dk_at dksX1_feed_0 7 rfl rfl)
theorem dX1_feed_9 : decode cX1_feed 9 = .ok (.iadd, 1) := dk_96 (dk_at dksX1_feed_0 9 rfl rfl)
theorem dX1_feed_10 : decode cX1_feed 10 = .ok (.sipush 2000, 3) := dk_17 7 208 (dk_at dksX1_feed_0 10 rfl rfl)
theorem dX1_feed_13 : decode cX1_feed 13 = .ok (.if_icmp .gt 7, 3) := dk_163 0 7 (dk_at dksX1_feed_0 13 rfl rfl)
theorem dX1_feed_16 : decode cX1_feed 16 = .ok (.iconst 1, 1) := dk_4 (dk_at dksX1_feed_0 16 rfl rfl)
theorem dX1_feed_17 : decode cX1_feed 17 = .ok (.goto 4, 3) := dk_167 0 4 (dk_at dksX1_feed_0 17 rfl rfl)
theorem dX1_feed_20 : decode cX1_feed 20 = .ok (.iconst 0, 1) := dk_3 (dk_at dksX1_feed_0 20 rfl rfl)
theorem dX1_feed_21 : decode cX1_feed 21 = .ok (.invokestatic 72, 3) := dk_184 0 72 (dk_at dksX1_feed_0 21 rfl rfl)
theorem dX1_feed_24 : decode cX1_feed 24 = .ok (.aload_n 0, 1) := dk_42 (dk_at dksX1_feed_1 0 rfl rfl)
theorem dX1_feed_25 : decode cX1_feed 25 = .ok (.getfield 25, 3) := dk_180 0 25 (dk_at dksX1_feed_1 1 rfl rfl)
theorem dX1_feed_28 : decode cX1_feed 28 = .ok (.iload_n 1, 1) := dk_27 (dk_at dksX1_feed_1 4 rfl rfl)
theorem dX1_feed_29 : decode cX1_feed 29 = .ok (.invokevirtual 75, 3) := dk_182 0 75 (dk_at dksX1_feed_1 5 rfl rfl)
theorem dX1_feed_32 : decode cX1_feed 32 = .ok (.aload_n 0, 1) := dk_42 (dk_at dksX1_feed_1 8 rfl rfl)
theorem dX1_feed_33 : decode cX1_feed 33 = .ok (.getfield 25, 3) := dk_180 0 25 (dk_at dksX1_feed_1 9 rfl rfl)
theorem dX1_feed_36 : decode cX1_feed 36 = .ok (.iload_n 2, 1) := dk_28 (dk_at dksX1_feed_1 12 rfl rfl)
theorem dX1_feed_37 : decode cX1_feed 37 = .ok (.invokevirtual 75, 3) := dk_182 0 75 (dk_at dksX1_feed_1 13 rfl rfl)
theorem dX1_feed_40 : decode cX1_feed 40 = .ok (.aload_n 0, 1) := dk_42 (dk_at dksX1_feed_1 16 rfl rfl)
theorem dX1_feed_41 : decode cX1_feed 41 = .ok (.getfield 25, 3) := dk_180 0 25 (dk_at dksX1_feed_1 17 rfl rfl)
theorem dX1_feed_44 : decode cX1_feed 44 = .ok (.iload_n 3, 1) := dk_29 (dk_at dksX1_feed_1 20 rfl rfl)
theorem dX1_feed_45 : decode cX1_feed 45 = .ok (.invokevirtual 75, 3) := dk_182 0 75 (dk_at dksX1_feed_1 21 rfl rfl)
theorem dX1_feed_48 : decode cX1_feed 48 = .ok (.aload_n 0, 1) := dk_42 (dk_at dksX1_feed_2 0 rfl rfl)
theorem dX1_feed_49 : decode cX1_feed 49 = .ok (.getfield 25, 3) := dk_180 0 25 (dk_at dksX1_feed_2 1 rfl rfl)
theorem dX1_feed_52 : decode cX1_feed 52 = .ok (.iload 4, 2) := dk_21 4 (dk_at dksX1_feed_2 4 rfl rfl)
theorem dX1_feed_54 : decode cX1_feed 54 = .ok (.invokevirtual 75, 3) := dk_182 0 75 (dk_at dksX1_feed_2 6 rfl rfl)
theorem dX1_feed_57 : decode cX1_feed 57 = .ok (.aload_n 0, 1) := dk_42 (dk_at dksX1_feed_2 9 rfl rfl)
theorem dX1_feed_58 : decode cX1_feed 58 = .ok (.getfield 25, 3) := dk_180 0 25 (dk_at dksX1_feed_2 10 rfl rfl)
theorem dX1_feed_61 : decode cX1_feed 61 = .ok (.iload 5, 2) := dk_21 5 (dk_at dksX1_feed_2 13 rfl rfl)
theorem dX1_feed_63 : decode cX1_feed 63 = .ok (.invokevirtual 75, 3) := dk_182 0 75 (dk_at dksX1_feed_2 15 rfl rfl)
theorem dX1_feed_66 : decode cX1_feed 66 = .ok (.aload_n 0, 1) := dk_42 (dk_at dksX1_feed_2 18 rfl rfl)
theorem dX1_feed_67 : decode cX1_feed 67 = .ok (.getfield 25, 3) := dk_180 0 25 (dk_at dksX1_feed_2 19 rfl rfl)
theorem dX1_feed_70 : decode cX1_feed 70 = .ok (.getfield 70, 3) := dk_180 0 70 (dk_at dksX1_feed_3 0 rfl rfl)
theorem dX1_feed_73 : decode cX1_feed 73 = .ok (.ireturn, 1) := dk_172 (dk_at dksX1_feed_3 3 rfl rfl)
theorem q2223 : (Jvm.Cond.code ({ cls := "DebateHall", name := "requireState", desc := "(Z)V" } : Jvm.MethodName) prog_1_method_2_code (1 : Nat) (Option.none : Option Jvm.ClassFile.FieldType)) ∈ lw_all := lw_g (lw_at lw_m9 223 rfl) rfl
theorem zk_X1_requireState : zz_cd yX1_requireState cX1_requireState 1 none none ∈ lw_all := q2223
theorem zy_X1_requireState : zz_yok yX1_requireState 1 = true := by decide +kernel
theorem q2242 : (Jvm.Cond.code ({ cls := "DebateHall$Tape", name := "put", desc := "(I)V" } : Jvm.MethodName) prog_19_method_2_code (3 : Nat) (Option.none : Option Jvm.ClassFile.FieldType)) ∈ lw_all := lw_g (lw_at lw_m10 2 rfl) rfl
theorem zk_X2_put : zz_cd yX2_put cX2_put 3 none none ∈ lw_all := q2242
theorem zy_X2_put : zz_yok yX2_put 1 = true := by decide +kernel
theorem q2239 : (Jvm.Cond.methodLink "DebateHall" (75 : Nat) ({ cls := "DebateHall$Tape", name := "put", desc := "(I)V" } : Jvm.MethodName)) ∈ lw_all := lw_g (lw_at lw_m9 239 rfl) rfl
theorem q2240 : (Jvm.Cond.instanceMethod ({ cls := "DebateHall$Tape", name := "put", desc := "(I)V" } : Jvm.MethodName)) ∈ lw_all := lw_g (lw_at lw_m10 0 rfl) rfl
theorem q2241 : (Jvm.Cond.selects "DebateHall$Tape" ({ cls := "DebateHall$Tape", name := "put", desc := "(I)V" } : Jvm.MethodName) ({ cls := "DebateHall$Tape", name := "put", desc := "(I)V" } : Jvm.MethodName)) ∈ lw_all := lw_g (lw_at lw_m10 1 rfl) rfl
theorem q2221 : (Jvm.Cond.methodLink "DebateHall" (72 : Nat) ({ cls := "DebateHall", name := "requireState", desc := "(Z)V" } : Jvm.MethodName)) ∈ lw_all := lw_g (lw_at lw_m9 221 rfl) rfl
theorem q2222 : (Jvm.Cond.static ({ cls := "DebateHall", name := "requireState", desc := "(Z)V" } : Jvm.MethodName)) ∈ lw_all := lw_g (lw_at lw_m9 222 rfl) rfl
def wp_X1_feed_B21 (Z : zzG) (K : Option Value → zzM → Prop) (X : Nat → Nat → zzM → Prop) (v0 : Option Nat) (v1 : Int32) (v2 : Int32) (v3 : Int32) (v4 : Int32) (v5 : Int32) (s0 : Int32) (M : zzM) (bc bs : Nat) : Prop := zcx bc bs (fun c s k x => wp_X1_requireState Z s0 M c s k x) (fun r3 M4 bc5 bs6 => zrV r3 (zgA Z M4 v0 [0] 0 fun x7 => zty Z M4 x7 fun t => t = 1 ∧ wp_X2_put Z x7 v1 M4 (fun r8 M9 => zrV r8 (zgA Z M9 v0 [0] 0 fun x12 => zty Z M9 x12 fun t => t = 1 ∧ wp_X2_put Z x12 v2 M9 (fun r13 M14 => zrV r13 (zgA Z M14 v0 [0] 0 fun x17 => zty Z M14 x17 fun t => t = 1 ∧ wp_X2_put Z x17 v3 M14 (fun r18 M19 => zrV r18 (zgA Z M19 v0 [0] 0 fun x22 => zty Z M19 x22 fun t => t = 1 ∧ wp_X2_put Z x22 v4 M19 (fun r23 M24 => zrV r23 (zgA Z M24 v0 [0] 0 fun x27 => zty Z M24 x27 fun t => t = 1 ∧ wp_X2_put Z x27 v5 M24 (fun r28 M29 => zrV r28 (zgA Z M29 v0 [0] 0 fun x32 => zgI Z M29 x32 [1] 1 fun x33 => K (some (.int x33)) M29)))))))))))) (fun t q M _ _ => X t q M)
def wp_X1_feed (Z : zzG) (this : Option Nat) (p0 : Int32) (p1 : Int32) (p2 : Int32) (p3 : Int32) (p4 : Int32) (M : zzM) (bc bs : Nat) (K : Option Value → zzM → Prop) (X : Nat → Nat → zzM → Prop) : Prop := zgA Z M this [0] 0 fun x1 => zgI Z M x1 [1] 1 fun x2 => if (2000 : Int32) < (x2 + (20 : Int32)) then (wp_X1_feed_B21 Z K X this p0 p1 p2 p3 p4 (0 : Int32) M bc bs) else (wp_X1_feed_B21 Z K X this p0 p1 p2 p3 p4 (1 : Int32) M bc bs)
theorem ok_X1_feed_B21 {G : zzX} (C : zz_C G cX1_feed "DebateHall" 6) {K : Option Value → zzM → Prop} {X : Nat → Nat → zzM → Prop} (E : zz_E G (some .int) K X) (hH : zz_H G []) (hR : zz_Rm G 7) {v0 : Option Nat} {v1 : Int32} {v2 : Int32} {v3 : Int32} {v4 : Int32} {v5 : Int32} {s0 : Int32} {M : zzM} {bc bs : Nat} (hw : wp_X1_feed_B21 (zz_Zof G) K X v0 v1 v2 v3 v4 v5 s0 M bc bs) : zz_T G 6 M bc bs 21 [(0, va_rf v0), (1, .int v1), (2, .int v2), (3, .int v3), (4, .int v4), (5, .int v5)] [.int s0] := by
  unfold wp_X1_feed_B21 at hw
  obtain ⟨c9, s9, hc9, hs9, hw⟩ := hw
  refine zz_callS (As := [.int s0]) (rest := []) C hR dX1_feed_21 (Or.inl q2221) q2222 zl_DebateHall zk_X1_requireState (Or.inl rfl) zy_X1_requireState (by decide) (by decide) (ok_X1_requireState (zz_hl C) hw) hc9 hs9 (zz_cat10 _ (Nat.le_of_ble_eq_true rfl)) (fun r3 M4 hw => zz_kV hw (fun hw => ?_)) (fun t9 q34 M35 hx => ?_) rfl
  · refine zz_aload_n C dX1_feed_24 rfl 0 rfl ?_
    refine zz_getA C dX1_feed_25 (Or.inl q303) zf_0_0_DebateHall hw (fun x7 hw => ?_)
    refine zz_iload_n C dX1_feed_28 rfl 1 rfl ?_
    obtain ⟨a9, t9, b9, fs9, hro, hL, rfl, hw⟩ := ztyS hw
    refine zz_callV (r := (zR_1, zT_1, 2)) (As := [.int v1]) (rest := []) (mc := 0) (ms := 0) C hR hro dX1_feed_29 (Or.inl q2239) q2240 (Or.inl q2241) zl_DebateHall_Tape zk_X2_put (Or.inl rfl) zy_X2_put rfl (by decide) (by decide) hL (ok_X2_put (zz_hl C) hw) (Nat.zero_le _) (Nat.zero_le _) (zz_cat10 _ (Nat.le_of_ble_eq_true rfl)) (fun r8 M9 hw => zz_kV hw (fun hw => ?_)) (fun _ _ _ h9 => h9.elim) rfl
    refine zz_aload_n C dX1_feed_32 rfl 0 rfl ?_
    refine zz_getA C dX1_feed_33 (Or.inl q303) zf_0_0_DebateHall hw (fun x12 hw => ?_)
    refine zz_iload_n C dX1_feed_36 rfl 2 rfl ?_
    obtain ⟨a9, t9, b9, fs9, hro, hL, rfl, hw⟩ := ztyS hw
    refine zz_callV (r := (zR_1, zT_1, 2)) (As := [.int v2]) (rest := []) (mc := 0) (ms := 0) C hR hro dX1_feed_37 (Or.inl q2239) q2240 (Or.inl q2241) zl_DebateHall_Tape zk_X2_put (Or.inl rfl) zy_X2_put rfl (by decide) (by decide) hL (ok_X2_put (zz_hl C) hw) (Nat.zero_le _) (Nat.zero_le _) (zz_cat10 _ (Nat.le_of_ble_eq_true rfl)) (fun r13 M14 hw => zz_kV hw (fun hw => ?_)) (fun _ _ _ h9 => h9.elim) rfl
    refine zz_aload_n C dX1_feed_40 rfl 0 rfl ?_
    refine zz_getA C dX1_feed_41 (Or.inl q303) zf_0_0_DebateHall hw (fun x17 hw => ?_)
    refine zz_iload_n C dX1_feed_44 rfl 3 rfl ?_
    obtain ⟨a9, t9, b9, fs9, hro, hL, rfl, hw⟩ := ztyS hw
    refine zz_callV (r := (zR_1, zT_1, 2)) (As := [.int v3]) (rest := []) (mc := 0) (ms := 0) C hR hro dX1_feed_45 (Or.inl q2239) q2240 (Or.inl q2241) zl_DebateHall_Tape zk_X2_put (Or.inl rfl) zy_X2_put rfl (by decide) (by decide) hL (ok_X2_put (zz_hl C) hw) (Nat.zero_le _) (Nat.zero_le _) (zz_cat10 _ (Nat.le_of_ble_eq_true rfl)) (fun r18 M19 hw => zz_kV hw (fun hw => ?_)) (fun _ _ _ h9 => h9.elim) rfl
    refine zz_aload_n C dX1_feed_48 rfl 0 rfl ?_
    refine zz_getA C dX1_feed_49 (Or.inl q303) zf_0_0_DebateHall hw (fun x22 hw => ?_)
    refine zz_iload C dX1_feed_52 4 rfl ?_
    obtain ⟨a9, t9, b9, fs9, hro, hL, rfl, hw⟩ := ztyS hw
    refine zz_callV (r := (zR_1, zT_1, 2)) (As := [.int v4]) (rest := []) (mc := 0) (ms := 0) C hR hro dX1_feed_54 (Or.inl q2239) q2240 (Or.inl q2241) zl_DebateHall_Tape zk_X2_put (Or.inl rfl) zy_X2_put rfl (by decide) (by decide) hL (ok_X2_put (zz_hl C) hw) (Nat.zero_le _) (Nat.zero_le _) (zz_cat10 _ (Nat.le_of_ble_eq_true rfl)) (fun r23 M24 hw => zz_kV hw (fun hw => ?_)) (fun _ _ _ h9 => h9.elim) rfl
    refine zz_aload_n C dX1_feed_57 rfl 0 rfl ?_
    refine zz_getA C dX1_feed_58 (Or.inl q303) zf_0_0_DebateHall hw (fun x27 hw => ?_)
    refine zz_iload C dX1_feed_61 5 rfl ?_
    obtain ⟨a9, t9, b9, fs9, hro, hL, rfl, hw⟩ := ztyS hw
    refine zz_callV (r := (zR_1, zT_1, 2)) (As := [.int v5]) (rest := []) (mc := 0) (ms := 0) C hR hro dX1_feed_63 (Or.inl q2239) q2240 (Or.inl q2241) zl_DebateHall_Tape zk_X2_put (Or.inl rfl) zy_X2_put rfl (by decide) (by decide) hL (ok_X2_put (zz_hl C) hw) (Nat.zero_le _) (Nat.zero_le _) (zz_cat10 _ (Nat.le_of_ble_eq_true rfl)) (fun r28 M29 hw => zz_kV hw (fun hw => ?_)) (fun _ _ _ h9 => h9.elim) rfl
    refine zz_aload_n C dX1_feed_66 rfl 0 rfl ?_
    refine zz_getA C dX1_feed_67 (Or.inl q303) zf_0_0_DebateHall hw (fun x32 hw => ?_)
    refine zz_getI C dX1_feed_70 (Or.inr ⟨_, q157⟩) zf_1_1_ebateHall_Tape hw (fun x33 hw => ?_)
    exact zz_iret C E dX1_feed_73 hw
  · exact zz_out C E hH rfl hx
theorem ok_X1_feed {Z : zzG} {l : Launch} (hl : l.stackTraces = false) {this : Option Nat} {p0 : Int32} {p1 : Int32} {p2 : Int32} {p3 : Int32} {p4 : Int32} {M : zzM} {mc ms : Nat} {K : Option Value → zzM → Prop} {X : Nat → Nat → zzM → Prop} (hw : wp_X1_feed Z this p0 p1 p2 p3 p4 M mc ms K X) : zz_Met Z l yX1_feed (zz_ws yX1_feed cX1_feed 6 (some .int) none) 7 [va_rf this, .int p0, .int p1, .int p2, .int p3, .int p4] M mc ms K X := by
  refine zz_ofW hl (plainFor_of_name (by decide)) (by simp only [zz_sl0, zz_slI, zz_slJ, zz_slA] <;> decide) (fun G hZ hll C E hH hR hin => ?_)
  subst hZ
  subst hll
  rw [show lv_args 0 [va_rf this, .int p0, .int p1, .int p2, .int p3, .int p4] = [(0, va_rf this), (1, .int p0), (2, .int p1), (3, .int p2), (4, .int p3), (5, .int p4)] by simp only [zz_la0, zz_laI, zz_laJ, zz_laA]]
  unfold wp_X1_feed at hw
  refine zz_aload_n C dX1_feed_0 rfl 0 rfl ?_
  refine zz_getA C dX1_feed_1 (Or.inl q303) zf_0_0_DebateHall hw (fun x1 hw => ?_)
  refine zz_getI C dX1_feed_4 (Or.inr ⟨_, q157⟩) zf_1_1_ebateHall_Tape hw (fun x2 hw => ?_)
  refine zz_bipush (v := (20 : Int32)) C dX1_feed_7 (by decide) ?_
  refine zz_iadd C dX1_feed_9 ?_
  refine zz_sipush (v := (2000 : Int32)) C dX1_feed_10 (by decide) ?_
  refine zz_icmp_gt (tgt := 20) C dX1_feed_13 (by decide) hw (fun hw => ?_) (fun hw => ?_)
  · refine zz_iconst (v := (0 : Int32)) C dX1_feed_20 (by decide) ?_
    refine zz_subP [0, 1, 2, 3, 4, 5] rfl ?_
    exact ok_X1_feed_B21 C E hH hR hw
  · refine zz_iconst (v := (1 : Int32)) C dX1_feed_16 (by decide) ?_
    refine zz_goto (tgt := 21) C dX1_feed_17 (by decide) ?_
    refine zz_subP [0, 1, 2, 3, 4, 5] rfl ?_
    exact ok_X1_feed_B21 C E hH hR hw
abbrev cX0_feed : ByteArray := method_3_code
def yX0_feed : MethodName := ⟨"DebateHallLaw", "feed", "(LDebateHall;IIIII[J)I"⟩
def dkwX0_feed_1 : List UInt8 := [172]
abbrev dktX0_feed_1 : List UInt8 := dkwX0_feed_1 ++ []
def dkwX0_feed_0 : List UInt8 := [25, 6, 3, 42, 27, 28, 29, 21, 4, 21, 5, 182, 0, 7, 133, 80, 167, 0, 7, 58, 7, 4, 172, 3]
abbrev dktX0_feed_0 : List UInt8 := dkwX0_feed_0 ++ dktX0_feed_1
theorem dksX0_feed_0 : cX0_feed.data.toList.drop 0 = dktX0_feed_0 := by decide +kernel
theorem dksX0_feed_1 : cX0_feed.data.toList.drop 24 = dktX0_feed_1 := dk_seg dksX0_feed_0 24 rfl rfl
theorem dX0_feed_0 : decode cX0_feed 0 = .ok (.aload 6, 2) := dk_25 6 (dk_at dksX0_feed_0 0 rfl rfl)
theorem dX0_feed_2 : decode cX0_feed 2 = .ok (.iconst 0, 1) := dk_3 (dk_at dksX0_feed_0 2 rfl rfl)
theorem dX0_feed_3 : decode cX0_feed 3 = .ok (.aload_n 0, 1) := dk_42 (dk_at dksX0_feed_0 3 rfl rfl)
theorem dX0_feed_4 : decode cX0_feed 4 = .ok (.iload_n 1, 1) := dk_27 (dk_at dksX0_feed_0 4 rfl rfl)
theorem dX0_feed_5 : decode cX0_feed 5 = .ok (.iload_n 2, 1) := dk_28 (dk_at dksX0_feed_0 5 rfl rfl)
theorem dX0_feed_6 : decode cX0_feed 6 = .ok (.iload_n 3, 1) := dk_29 (dk_at dksX0_feed_0 6 rfl rfl)
theorem dX0_feed_7 : decode cX0_feed 7 = .ok (.iload 4, 2) := dk_21 4 (dk_at dksX0_feed_0 7 rfl rfl)
theorem dX0_feed_9 : decode cX0_feed 9 = .ok (.iload 5, 2) := dk_21 5 (dk_at dksX0_feed_0 9 rfl rfl)
theorem dX0_feed_11 : decode cX0_feed 11 = .ok (.invokevirtual 7, 3) := dk_182 0 7 (dk_at dksX0_feed_0 11 rfl rfl)
theorem dX0_feed_14 : decode cX0_feed 14 = .ok (.i2l, 1) := dk_133 (dk_at dksX0_feed_0 14 rfl rfl)
theorem dX0_feed_15 : decode cX0_feed 15 = .ok (.lastore, 1) := dk_80 (dk_at dksX0_feed_0 15 rfl rfl)
theorem dX0_feed_16 : decode cX0_feed 16 = .ok (.goto 7, 3) := dk_167 0 7 (dk_at dksX0_feed_0 16 rfl rfl)
theorem dX0_feed_19 : decode cX0_feed 19 = .ok (.astore 7, 2) := dk_58 7 (dk_at dksX0_feed_0 19 rfl rfl)
theorem dX0_feed_21 : decode cX0_feed 21 = .ok (.iconst 1, 1) := dk_4 (dk_at dksX0_feed_0 21 rfl rfl)
theorem dX0_feed_22 : decode cX0_feed 22 = .ok (.ireturn, 1) := dk_172 (dk_at dksX0_feed_0 22 rfl rfl)
theorem dX0_feed_23 : decode cX0_feed 23 = .ok (.iconst 0, 1) := dk_3 (dk_at dksX0_feed_0 23 rfl rfl)
theorem dX0_feed_24 : decode cX0_feed 24 = .ok (.ireturn, 1) := dk_172 (dk_at dksX0_feed_1 0 rfl rfl)
theorem q2220 : (Jvm.Cond.code ({ cls := "DebateHall", name := "feed", desc := "(IIIII)I" } : Jvm.MethodName) prog_1_method_8_code (6 : Nat) (Option.some Jvm.ClassFile.FieldType.int)) ∈ lw_all := lw_g (lw_at lw_m9 220 rfl) rfl
theorem zk_X1_feed : zz_cd yX1_feed cX1_feed 6 (some .int) none ∈ lw_all := q2220
theorem zy_X1_feed : zz_yok yX1_feed 5 = true := by decide +kernel
theorem q2216 : (Jvm.Cond.classLink "DebateHallLaw" (13 : Nat) "java/lang/IllegalStateException") ∈ lw_all := lw_g (lw_at lw_m9 216 rfl) rfl
theorem q2217 : (Jvm.Cond.methodLink "DebateHallLaw" (7 : Nat) ({ cls := "DebateHall", name := "feed", desc := "(IIIII)I" } : Jvm.MethodName)) ∈ lw_all := lw_g (lw_at lw_m9 217 rfl) rfl
theorem q2218 : (Jvm.Cond.instanceMethod ({ cls := "DebateHall", name := "feed", desc := "(IIIII)I" } : Jvm.MethodName)) ∈ lw_all := lw_g (lw_at lw_m9 218 rfl) rfl
theorem q2219 : (Jvm.Cond.selects "DebateHall" ({ cls := "DebateHall", name := "feed", desc := "(IIIII)I" } : Jvm.MethodName) ({ cls := "DebateHall", name := "feed", desc := "(IIIII)I" } : Jvm.MethodName)) ∈ lw_all := lw_g (lw_at lw_m9 219 rfl) rfl
def wp_X0_feed_B19 (Z : zzG) (K : Option Value → zzM → Prop) (s0 : Option Nat) (M : zzM) (bc bs : Nat) : Prop := K (some (.int (1 : Int32))) M
def wp_X0_feed (Z : zzG) (p0 : Option Nat) (p1 : Int32) (p2 : Int32) (p3 : Int32) (p4 : Int32) (p5 : Int32) (p6 : Option Nat) (M : zzM) (bc bs : Nat) (K : Option Value → zzM → Prop) : Prop := zty Z M p0 fun t => t = 0 ∧ zcx bc bs (fun c s k x => wp_X1_feed Z p0 p1 p2 p3 p4 p5 M c s k x) (fun r1 M2 bc3 bs4 => zrI r1 fun x5 => zast Z M2 p6 [102] (0 : Int32) (.long x5.toInt64) fun M6 => K (some (.int (0 : Int32))) M6) (fun t q7 M8 bc9 bs10 => if t = 26 then (wp_X0_feed_B19 Z K (some q7) M8 bc9 bs10) else False)
theorem ok_X0_feed_B19 {G : zzX} (C : zz_C G cX0_feed "DebateHallLaw" 8) {K : Option Value → zzM → Prop} (E : zz_E G (some .int) K (fun _ _ _ => False)) (hH : zz_H G [(0, 16, 19, 13)]) (hR : zz_Rm G 8) {s0 : Option Nat} {M : zzM} {bc bs : Nat} (hw : wp_X0_feed_B19 (zz_Zof G) K s0 M bc bs) : zz_T G 8 M bc bs 19 [] [va_rf s0] := by
  unfold wp_X0_feed_B19 at hw
  refine zz_astore (lv' := [(7, va_rf s0)]) C dX0_feed_19 (by decide) rfl ?_
  refine zz_iconst (v := (1 : Int32)) C dX0_feed_21 (by decide) ?_
  exact zz_iret C E dX0_feed_22 hw
theorem ok_X0_feed {Z : zzG} {l : Launch} (hl : l.stackTraces = false) {p0 : Option Nat} {p1 : Int32} {p2 : Int32} {p3 : Int32} {p4 : Int32} {p5 : Int32} {p6 : Option Nat} {M : zzM} {mc ms : Nat} {K : Option Value → zzM → Prop} (hw : wp_X0_feed Z p0 p1 p2 p3 p4 p5 p6 M mc ms K) : zz_Met Z l yX0_feed (zz_ws yX0_feed cX0_feed 8 (some .int) (some [(0, 16, 19, 13)])) 8 [va_rf p0, .int p1, .int p2, .int p3, .int p4, .int p5, va_rf p6] M mc ms K (fun _ _ _ => False) := by
  refine zz_ofW hl (plainFor_of_name (by decide)) (by simp only [zz_sl0, zz_slI, zz_slJ, zz_slA] <;> decide) (fun G hZ hll C E hH hR hin => ?_)
  subst hZ
  subst hll
  rw [show lv_args 0 [va_rf p0, .int p1, .int p2, .int p3, .int p4, .int p5, va_rf p6] = [(0, va_rf p0), (1, .int p1), (2, .int p2), (3, .int p3), (4, .int p4), (5, .int p5), (6, va_rf p6)] by simp only [zz_la0, zz_laI, zz_laJ, zz_laA]]
  unfold wp_X0_feed at hw
  refine zz_aload C dX0_feed_0 6 rfl ?_
  refine zz_iconst (v := (0 : Int32)) C dX0_feed_2 (by decide) ?_
  refine zz_aload_n C dX0_feed_3 rfl 0 rfl ?_
  refine zz_iload_n C dX0_feed_4 rfl 1 rfl ?_
  refine zz_iload_n C dX0_feed_5 rfl 2 rfl ?_
  refine zz_iload_n C dX0_feed_6 rfl 3 rfl ?_
  refine zz_iload C dX0_feed_7 4 rfl ?_
  refine zz_iload C dX0_feed_9 5 rfl ?_
  obtain ⟨a9, t9, b9, fs9, hro, hL, rfl, hw⟩ := ztyS hw
  obtain ⟨c9, s9, hc9, hs9, hw⟩ := hw
  refine zz_callV (r := (zR_0, zT_0, 4)) (As := [.int p1, .int p2, .int p3, .int p4, .int p5]) (rest := [.int (0 : Int32), va_rf p6]) C hR hro dX0_feed_11 (Or.inl q2217) q2218 (Or.inl q2219) zl_DebateHall zk_X1_feed (Or.inl rfl) zy_X1_feed rfl (by decide) (by decide) hL (ok_X1_feed (zz_hl C) hw) hc9 hs9 (zz_cat10 _ (Nat.le_of_ble_eq_true rfl)) (fun r1 M2 hw => zz_kI hw (fun x5 hw => ?_)) (fun t9 q7 M8 hw => ?_) rfl
  · refine zz_i2l C dX0_feed_14 ?_
    refine zz_last C dX0_feed_15 hw (fun M6 hw => ?_)
    refine zz_goto (tgt := 23) C dX0_feed_16 (by decide) ?_
    refine zz_iconst (v := (0 : Int32)) C dX0_feed_23 (by decide) ?_
    exact zz_iret C E dX0_feed_24 hw
  · by_cases e26 : t9 = 26
    · replace hw := zz_ifp e26 hw
      subst e26
      refine zz_catch (r := (zR_26, zT_26, 0)) C hH rfl [] (0, 16, 19, 13) [] rfl (fun _ h9 => absurd h9 List.not_mem_nil) rfl (by decide) q2216 q2226 ?_
      refine zz_subP [] rfl ?_
      exact ok_X0_feed_B19 C E hH hR hw
    · replace hw := zz_ifn e26 hw
      exact hw.elim
abbrev cX4_feed : ByteArray := prog_25_method_43_code
def yX4_feed : MethodName := ⟨"DebateHallModel", "feed", "(IIIII)I"⟩
def dkwX4_feed_4 : List UInt8 := [132, 7, 1, 167, 255, 212, 42, 89, 180, 0, 145, 16, 20, 96, 181, 0, 145, 42, 180, 0, 145, 172]
abbrev dktX4_feed_4 : List UInt8 := dkwX4_feed_4 ++ []
def dkwX4_feed_3 : List UInt8 := [25, 6, 21, 7, 7, 108, 46, 16, 24, 16, 8, 21, 7, 7, 112, 104, 100, 124, 17, 0, 255, 126, 79]
abbrev dktX4_feed_3 : List UInt8 := dkwX4_feed_3 ++ dktX4_feed_4
def dkwX4_feed_2 : List UInt8 := [79, 58, 6, 3, 54, 7, 21, 7, 16, 20, 162, 0, 43, 42, 180, 0, 27, 42, 180, 0, 145, 21, 7, 96]
abbrev dktX4_feed_2 : List UInt8 := dkwX4_feed_2 ++ dktX4_feed_3
def dkwX4_feed_1 : List UInt8 := [8, 188, 10, 89, 3, 27, 79, 89, 4, 28, 79, 89, 5, 29, 79, 89, 6, 21, 4, 79, 89, 7, 21, 5]
abbrev dktX4_feed_1 : List UInt8 := dkwX4_feed_1 ++ dktX4_feed_2
def dkwX4_feed_0 : List UInt8 := [42, 3, 181, 0, 85, 42, 180, 0, 145, 16, 20, 96, 17, 7, 208, 164, 0, 9, 42, 4, 182, 1, 56, 172]
abbrev dktX4_feed_0 : List UInt8 := dkwX4_feed_0 ++ dktX4_feed_1
theorem dksX4_feed_0 : cX4_feed.data.toList.drop 0 = dktX4_feed_0 := by decide +kernel
theorem dksX4_feed_1 : cX4_feed.data.toList.drop 24 = dktX4_feed_1 := dk_seg dksX4_feed_0 24 rfl rfl
theorem dksX4_feed_2 : cX4_feed.data.toList.drop 48 = dktX4_feed_2 := dk_seg dksX4_feed_1 24 rfl rfl
theorem dksX4_feed_3 : cX4_feed.data.toList.drop 72 = dktX4_feed_3 := dk_seg dksX4_feed_2 24 rfl rfl
theorem dksX4_feed_4 : cX4_feed.data.toList.drop 95 = dktX4_feed_4 := dk_seg dksX4_feed_3 23 rfl rfl
theorem dX4_feed_0 : decode cX4_feed 0 = .ok (.aload_n 0, 1) := dk_42 (dk_at dksX4_feed_0 0 rfl rfl)
theorem dX4_feed_1 : decode cX4_feed 1 = .ok (.iconst 0, 1) := dk_3 (dk_at dksX4_feed_0 1 rfl rfl)
theorem dX4_feed_2 : decode cX4_feed 2 = .ok (.putfield 85, 3) := dk_181 0 85 (dk_at dksX4_feed_0 2 rfl rfl)
theorem dX4_feed_5 : decode cX4_feed 5 = .ok (.aload_n 0, 1) := dk_42 (dk_at dksX4_feed_0 5 rfl rfl)
theorem dX4_feed_6 : decode cX4_feed 6 = .ok (.getfield 145, 3) := dk_180 0 145 (dk_at dksX4_feed_0 6 rfl rfl)
theorem dX4_feed_9 : decode cX4_feed 9 = .ok (.bipush 20, 2) := dk_16 20 (dk_at dksX4_feed_0 9 rfl rfl)
theorem dX4_feed_11 : decode cX4_feed 11 = .ok (.iadd, 1) := dk_96 (dk_at dksX4_feed_0 11 rfl rfl)
theorem dX4_feed_12 : decode cX4_feed 12 = .ok (.sipush 2000, 3) := dk_17 7 208 (dk_at dksX4_feed_0 12 rfl rfl)
theorem dX4_feed_15 : decode cX4_feed 15 = .ok (.if_icmp .le 9, 3) := dk_164 0 9 (dk_at dksX4_feed_0 15 rfl rfl)
theorem dX4_feed_18 : decode cX4_feed 18 = .ok (.aload_n 0, 1) := dk_42 (dk_at dksX4_feed_0 18 rfl rfl)
theorem dX4_feed_19 : decode cX4_feed 19 = .ok (.iconst 1, 1) := dk_4 (dk_at dksX4_feed_0 19 rfl rfl)
theorem dX4_feed_20 : decode cX4_feed 20 = .ok (.invokevirtual 312, 3) := dk_182 1 56 (dk_at dksX4_feed_0 20 rfl rfl)
theorem dX4_feed_23 : decode cX4_feed 23 = .ok (.ireturn, 1) := dk_172 (dk_at dksX4_feed_0 23 rfl rfl)
theorem dX4_feed_24 : decode cX4_feed 24 = .ok (.iconst 5, 1) := dk_8 (dk_at dksX4_feed_1 0 rfl rfl)
theorem dX4_feed_25 : decode cX4_feed 25 = .ok (.newarray .int, 2) := dk_188_10 (dk_at dksX4_feed_1 1 rfl rfl)
theorem dX4_feed_27 : decode cX4_feed 27 = .ok (.dup, 1) := dk_89 (dk_at dksX4_feed_1 3 rfl rfl)
theorem dX4_feed_28 : decode cX4_feed 28 = .ok (.iconst 0, 1) := dk_3 (dk_at dksX4_feed_1 4 rfl rfl)
theorem dX4_feed_29 : decode cX4_feed 29 = .ok (.iload_n 1, 1) := dk_27 (dk_at dksX4_feed_1 5 rfl rfl)
theorem dX4_feed_30 : decode cX4_feed 30 = .ok (.iastore, 1) := dk_79 (dk_at dksX4_feed_1 6 rfl rfl)
theorem dX4_feed_31 : decode cX4_feed 31 = .ok (.dup, 1) := dk_89 (dk_at dksX4_feed_1 7 rfl rfl)
theorem dX4_feed_32 : decode cX4_feed 32 = .ok (.iconst 1, 1) := dk_4 (dk_at dksX4_feed_1 8 rfl rfl)
theorem dX4_feed_33 : decode cX4_feed 33 = .ok (.iload_n 2, 1) := dk_28 (dk_at dksX4_feed_1 9 rfl rfl)
theorem dX4_feed_34 : decode cX4_feed 34 = .ok (.iastore, 1) := dk_79 (dk_at dksX4_feed_1 10 rfl rfl)
theorem dX4_feed_35 : decode cX4_feed 35 = .ok (.dup, 1) := dk_89 (dk_at dksX4_feed_1 11 rfl rfl)
theorem dX4_feed_36 : decode cX4_feed 36 = .ok (.iconst 2, 1) := dk_5 (dk_at dksX4_feed_1 12 rfl rfl)
theorem dX4_feed_37 : decode cX4_feed 37 = .ok (.iload_n 3, 1) := dk_29 (dk_at dksX4_feed_1 13 rfl rfl)
theorem dX4_feed_38 : decode cX4_feed 38 = .ok (.iastore, 1) := dk_79 (dk_at dksX4_feed_1 14 rfl rfl)
theorem dX4_feed_39 : decode cX4_feed 39 = .ok (.dup, 1) := dk_89 (dk_at dksX4_feed_1 15 rfl rfl)
theorem dX4_feed_40 : decode cX4_feed 40 = .ok (.iconst 3, 1) := dk_6 (dk_at dksX4_feed_1 16 rfl rfl)
theorem dX4_feed_41 : decode cX4_feed 41 = .ok (.iload 4, 2) := dk_21 4 (dk_at dksX4_feed_1 17 rfl rfl)
theorem dX4_feed_43 : decode cX4_feed 43 = .ok (.iastore, 1) := dk_79 (dk_at dksX4_feed_1 19 rfl rfl)
theorem dX4_feed_44 : decode cX4_feed 44 = .ok (.dup, 1) := dk_89 (dk_at dksX4_feed_1 20 rfl rfl)
theorem dX4_feed_45 : decode cX4_feed 45 = .ok (.iconst 4, 1) := dk_7 (dk_at dksX4_feed_1 21 rfl rfl)
theorem dX4_feed_46 : decode cX4_feed 46 = .ok (.iload 5, 2) := dk_21 5 (dk_at dksX4_feed_1 22 rfl rfl)
theorem dX4_feed_48 : decode cX4_feed 48 = .ok (.iastore, 1) := dk_79 (dk_at dksX4_feed_2 0 rfl rfl)
theorem dX4_feed_49 : decode cX4_feed 49 = .ok (.astore 6, 2) := dk_58 6 (dk_at dksX4_feed_2 1 rfl rfl)
theorem dX4_feed_51 : decode cX4_feed 51 = .ok (.iconst 0, 1) := dk_3 (dk_at dksX4_feed_2 3 rfl rfl)
theorem dX4_feed_52 : decode cX4_feed 52 = .ok (.istore 7, 2) := dk_54 7 (dk_at dksX4_feed_2 4 rfl rfl)
theorem dX4_feed_54 : decode cX4_feed 54 = .ok (.iload 7, 2) := dk_21 7 (dk_at dksX4_feed_2 6 rfl rfl)
theorem dX4_feed_56 : decode cX4_feed 56 = .ok (.bipush 20, 2) := dk_16 20 (dk_at dksX4_feed_2 8 rfl rfl)
theorem dX4_feed_58 : decode cX4_feed 58 = .ok (.if_icmp .ge 43, 3) := dk_162 0 43 (dk_at dksX4_feed_2 10 rfl rfl)
theorem dX4_feed_61 : decode cX4_feed 61 = .ok (.aload_n 0, 1) := dk_42 (dk_at dksX4_feed_2 13 rfl rfl)
theorem dX4_feed_62 : decode cX4_feed 62 = .ok (.getfield 27, 3) := dk_180 0 27 (dk_at dksX4_feed_2 14 rfl rfl)
theorem dX4_feed_65 : decode cX4_feed 65 = .ok (.aload_n 0, 1) := dk_42 (dk_at dksX4_feed_2 17 rfl rfl)
theorem dX4_feed_66 : decode cX4_feed 66 = .ok (.getfield 145, 3) := dk_180 0 145 (dk_at dksX4_feed_2 18 rfl rfl)
theorem dX4_feed_69 : decode cX4_feed 69 = .ok (.iload 7, 2) := dk_21 7 (dk_at dksX4_feed_2 21 rfl rfl)
theorem dX4_feed_71 : decode cX4_feed 71 = .ok (.iadd, 1) := dk_96 (dk_at dksX4_feed_2 23 rfl rfl)
theorem dX4_feed_72 : decode cX4_feed 72 = .ok (.aload 6, 2) := dk_25 6 (dk_at dksX4_feed_3 0 rfl rfl)
theorem dX4_feed_74 : decode cX4_feed 74 = .ok (.iload 7, 2) := dk_21 7 (dk_at dksX4_feed_3 2 rfl rfl)
theorem dX4_feed_76 : decode cX4_feed 76 = .ok (.iconst 4, 1) := dk_7 (dk_at dksX4_feed_3 4 rfl rfl)
theorem dX4_feed_77 : decode cX4_feed 77 = .ok (.idiv, 1) := dk_108 (dk_at dksX4_feed_3 5 rfl rfl)
theorem dX4_feed_78 : decode cX4_feed 78 = .ok (.iaload, 1) := dk_46 (dk_at dksX4_feed_3 6 rfl rfl)
theorem dX4_feed_79 : decode cX4_feed 79 = .ok (.bipush 24, 2) := dk_16 24 (dk_at dksX4_feed_3 7 rfl rfl)
theorem dX4_feed_81 : decode cX4_feed 81 = .ok (.bipush 8, 2) := dk_16 8 (dk_at dksX4_feed_3 9 rfl rfl)
theorem dX4_feed_83 : decode cX4_feed 83 = .ok (.iload 7, 2) := dk_21 7 (dk_at dksX4_feed_3 11 rfl rfl)
theorem dX4_feed_85 : decode cX4_feed 85 = .ok (.iconst 4, 1) := dk_7 (dk_at dksX4_feed_3 13 rfl rfl)
theorem dX4_feed_86 : decode cX4_feed 86 = .ok (.irem, 1) := dk_112 (dk_at dksX4_feed_3 14 rfl rfl)
theorem dX4_feed_87 : decode cX4_feed 87 = .ok (.imul, 1) := dk_104 (dk_at dksX4_feed_3 15 rfl rfl)
theorem dX4_feed_88 : decode cX4_feed 88 = .ok (.isub, 1) := dk_100 (dk_at dksX4_feed_3 16 rfl rfl)
theorem dX4_feed_89 : decode cX4_feed 89 = .ok (.iushr, 1) := dk_124 (dk_at dksX4_feed_3 17 rfl rfl)
theorem dX4_feed_90 : decode cX4_feed 90 = .ok (.sipush 255, 3) := dk_17 0 255 (dk_at dksX4_feed_3 18 rfl rfl)
theorem dX4_feed_93 : decode cX4_feed 93 = .ok (.iand, 1) := dk_126 (dk_at dksX4_feed_3 21 rfl rfl)
theorem dX4_feed_94 : decode cX4_feed 94 = .ok (.iastore, 1) := dk_79 (dk_at dksX4_feed_3 22 rfl rfl)
theorem dX4_feed_95 : decode cX4_feed 95 = .ok (.iinc 7 1, 3) := dk_132 7 1 (dk_at dksX4_feed_4 0 rfl rfl)
theorem dX4_feed_98 : decode cX4_feed 98 = .ok (.goto (-44), 3) := dk_167 255 212 (dk_at dksX4_feed_4 3 rfl rfl)
theorem dX4_feed_101 : decode cX4_feed 101 = .ok (.aload_n 0, 1) := dk_42 (dk_at dksX4_feed_4 6 rfl rfl)
theorem dX4_feed_102 : decode cX4_feed 102 = .ok (.dup, 1) := dk_89 (dk_at dksX4_feed_4 7 rfl rfl)
theorem dX4_feed_103 : decode cX4_feed 103 = .ok (.getfield 145, 3) := dk_180 0 145 (dk_at dksX4_feed_4 8 rfl rfl)
theorem dX4_feed_106 : decode cX4_feed 106 = .ok (.bipush 20, 2) := dk_16 20 (dk_at dksX4_feed_4 11 rfl rfl)
theorem dX4_feed_108 : decode cX4_feed 108 = .ok (.iadd, 1) := dk_96 (dk_at dksX4_feed_4 13 rfl rfl)
theorem dX4_feed_109 : decode cX4_feed 109 = .ok (.putfield 145, 3) := dk_181 0 145 (dk_at dksX4_feed_4 14 rfl rfl)
theorem dX4_feed_112 : decode cX4_feed 112 = .ok (.aload_n 0, 1) := dk_42 (dk_at dksX4_feed_4 17 rfl rfl)
theorem dX4_feed_113 : decode cX4_feed 113 = .ok (.getfield 145, 3) := dk_180 0 145 (dk_at dksX4_feed_4 18 rfl rfl)
theorem dX4_feed_116 : decode cX4_feed 116 = .ok (.ireturn, 1) := dk_172 (dk_at dksX4_feed_4 21 rfl rfl)
def wp_X4_feed_L54 (Z : zzG) (K : Option Value → zzM → Prop) : Nat → Option Nat → Option Nat → Int32 → zzM → Nat → Nat → Prop
  | 0, _, _, _, _, _, _ => False
  | n + 1, v0, v6, v7, M, bc, bs => if (20 : Int32) ≤ v7 then (zgI Z M v0 [16] 2 fun x17 => zput Z M v0 [16] 2 (.int (x17 + (20 : Int32))) fun M18 => zgI Z M18 v0 [16] 2 fun x19 => K (some (.int x19)) M18) else (zgA Z M v0 [16] 3 fun x20 => zgI Z M v0 [16] 2 fun x21 => ¬ (4 : Int32) = 0 ∧ zaI Z M v6 [100] (v7 / (4 : Int32)) fun x22 => ¬ (4 : Int32) = 0 ∧ zast Z M x20 [100] (x21 + v7) (.int (((x22.toUInt32 >>> (((24 : Int32) - ((8 : Int32) * (v7 - v7 / (4 : Int32) * (4 : Int32)))).toUInt32 &&& Int32.toUInt32 31)).toInt32) &&& (255 : Int32))) fun M23 => wp_X4_feed_L54 Z K n v0 v6 (v7 + 1) M23 bc bs)
def wp_X4_feed (Z : zzG) (this : Option Nat) (p0 : Int32) (p1 : Int32) (p2 : Int32) (p3 : Int32) (p4 : Int32) (M : zzM) (bc bs : Nat) (K : Option Value → zzM → Prop) : Prop := zput Z M this [16] 0 (.int (0 : Int32)) fun M1 => zgI Z M1 this [16] 2 fun x2 => if (x2 + (20 : Int32)) ≤ (2000 : Int32) then (znar Z M1 bc bs 100 (5 : Int32) (.int 0) fun q3 M4 bc5 bs6 => zast Z M4 (some q3) [100] (0 : Int32) (.int p0) fun M7 => zast Z M7 (some q3) [100] (1 : Int32) (.int p1) fun M8 => zast Z M8 (some q3) [100] (2 : Int32) (.int p2) fun M9 => zast Z M9 (some q3) [100] (3 : Int32) (.int p3) fun M10 => zast Z M10 (some q3) [100] (4 : Int32) (.int p4) fun M11 => ∃ n54 : Nat, wp_X4_feed_L54 Z K n54 this (some q3) (0 : Int32) M11 bc5 bs6) else (zty Z M1 this fun t => t = 16 ∧ wp_X4_no Z this (1 : Int32) M1 (fun r12 M13 => zrI r12 fun x16 => K (some (.int x16)) M13))
theorem ok_X4_feed_L54 {G : zzX} (C : zz_C G cX4_feed "DebateHallModel" 8) {K : Option Value → zzM → Prop} (E : zz_E G (some .int) K (fun _ _ _ => False)) (hH : zz_H G []) (hR : zz_Rm G 2) : ∀ (n : Nat) (v0 : Option Nat) (v6 : Option Nat) (v7 : Int32) (M : zzM) (bc bs : Nat), wp_X4_feed_L54 (zz_Zof G) K n v0 v6 v7 M bc bs → zz_T G 8 M bc bs 54 [(0, va_rf v0), (6, va_rf v6), (7, .int v7)] [] := by
  intro n
  induction n with
  | zero =>
    intro v0 v6 v7 M bc bs hw
    exact False.elim hw
  | succ n ih =>
    intro v0 v6 v7 M bc bs hw
    refine zz_iload C dX4_feed_54 2 rfl ?_
    refine zz_bipush (v := (20 : Int32)) C dX4_feed_56 (by decide) ?_
    refine zz_icmp_ge (tgt := 101) C dX4_feed_58 (by decide) hw (fun hw => ?_) (fun hw => ?_)
    · refine zz_aload_n C dX4_feed_101 rfl 0 rfl ?_
      refine zz_dup C dX4_feed_102 (zz_cat _) ?_
      refine zz_getI C dX4_feed_103 (Or.inl q2438) zf_16_2_ebateHallModel hw (fun x17 hw => ?_)
      refine zz_bipush (v := (20 : Int32)) C dX4_feed_106 (by decide) ?_
      refine zz_iadd C dX4_feed_108 ?_
      refine zz_put C dX4_feed_109 (Or.inl q2438) zf_16_2_ebateHallModel zp_16_2 (zz_hn1 ⟨rfl, rfl⟩) hw (fun M18 hw => ?_)
      refine zz_aload_n C dX4_feed_112 rfl 0 rfl ?_
      refine zz_getI C dX4_feed_113 (Or.inl q2438) zf_16_2_ebateHallModel hw (fun x19 hw => ?_)
      exact zz_iret C E dX4_feed_116 hw
    · refine zz_aload_n C dX4_feed_61 rfl 0 rfl ?_
      refine zz_getA C dX4_feed_62 (Or.inl q2439) zf_16_3_ebateHallModel hw (fun x20 hw => ?_)
      refine zz_aload_n C dX4_feed_65 rfl 0 rfl ?_
      refine zz_getI C dX4_feed_66 (Or.inl q2438) zf_16_2_ebateHallModel hw (fun x21 hw => ?_)
      refine zz_iload C dX4_feed_69 2 rfl ?_
      refine zz_iadd C dX4_feed_71 ?_
      refine zz_aload C dX4_feed_72 1 rfl ?_
      refine zz_iload C dX4_feed_74 2 rfl ?_
      refine zz_iconst (v := (4 : Int32)) C dX4_feed_76 (by decide) ?_
      obtain ⟨hne, hw⟩ := hw
      refine zz_idiv C dX4_feed_77 hne ?_
      refine zz_iald C dX4_feed_78 hw (fun x22 hw => ?_)
      refine zz_bipush (v := (24 : Int32)) C dX4_feed_79 (by decide) ?_
      refine zz_bipush (v := (8 : Int32)) C dX4_feed_81 (by decide) ?_
      refine zz_iload C dX4_feed_83 2 rfl ?_
      refine zz_iconst (v := (4 : Int32)) C dX4_feed_85 (by decide) ?_
      obtain ⟨hne, hw⟩ := hw
      refine zz_irem C dX4_feed_86 hne ?_
      refine zz_imul C dX4_feed_87 ?_
      refine zz_isub C dX4_feed_88 ?_
      refine zz_iushr C dX4_feed_89 rfl ?_
      refine zz_sipush (v := (255 : Int32)) C dX4_feed_90 (by decide) ?_
      refine zz_iand C dX4_feed_93 ?_
      refine zz_iast C dX4_feed_94 hw (fun M23 hw => ?_)
      refine zz_iinc (lv' := [(7, .int (v7 + 1)), (0, va_rf v0), (6, va_rf v6)]) C dX4_feed_95 2 rfl (by rfl) (by decide) (by simp [zz_cat, zz_catI, zz_catJ, zz_catD]) ?_
      refine zz_goto (tgt := 54) C dX4_feed_98 (by decide) ?_
      refine zz_subP [1, 2, 0] rfl ?_
      exact ih _ _ _ _ _ _ hw
theorem ok_X4_feed {Z : zzG} {l : Launch} (hl : l.stackTraces = false) {this : Option Nat} {p0 : Int32} {p1 : Int32} {p2 : Int32} {p3 : Int32} {p4 : Int32} {M : zzM} {mc ms : Nat} {K : Option Value → zzM → Prop} (hw : wp_X4_feed Z this p0 p1 p2 p3 p4 M mc ms K) : zz_Met Z l yX4_feed (zz_ws yX4_feed cX4_feed 8 (some .int) none) 2 [va_rf this, .int p0, .int p1, .int p2, .int p3, .int p4] M mc ms K (fun _ _ _ => False) := by
  refine zz_ofW hl (plainFor_of_name (by decide)) (by simp only [zz_sl0, zz_slI, zz_slJ, zz_slA] <;> decide) (fun G hZ hll C E hH hR hin => ?_)
  subst hZ
  subst hll
  rw [show lv_args 0 [va_rf this, .int p0, .int p1, .int p2, .int p3, .int p4] = [(0, va_rf this), (1, .int p0), (2, .int p1), (3, .int p2), (4, .int p3), (5, .int p4)] by simp only [zz_la0, zz_laI, zz_laJ, zz_laA]]
  unfold wp_X4_feed at hw
  refine zz_aload_n C dX4_feed_0 rfl 0 rfl ?_
  refine zz_iconst (v := (0 : Int32)) C dX4_feed_1 (by decide) ?_
  refine zz_put C dX4_feed_2 (Or.inl q2436) zf_16_0_ebateHallModel zp_16_0 (zz_hn1 ⟨rfl, rfl⟩) hw (fun M1 hw => ?_)
  refine zz_aload_n C dX4_feed_5 rfl 0 rfl ?_
  refine zz_getI C dX4_feed_6 (Or.inl q2438) zf_16_2_ebateHallModel hw (fun x2 hw => ?_)
  refine zz_bipush (v := (20 : Int32)) C dX4_feed_9 (by decide) ?_
  refine zz_iadd C dX4_feed_11 ?_
  refine zz_sipush (v := (2000 : Int32)) C dX4_feed_12 (by decide) ?_
  refine zz_icmp_le (tgt := 24) C dX4_feed_15 (by decide) hw (fun hw => ?_) (fun hw => ?_)
  · refine zz_iconst (v := (5 : Int32)) C dX4_feed_24 (by decide) ?_
    refine zz_newar (t := 100) (ty := .int) C dX4_feed_25 rfl rfl (by decide) (fun _ _ h9 => h9) rfl q270 hw (fun q3 M4 bc5 bs6 hw => ?_)
    refine zz_dup C dX4_feed_27 (zz_cat _) ?_
    refine zz_iconst (v := (0 : Int32)) C dX4_feed_28 (by decide) ?_
    refine zz_iload_n C dX4_feed_29 rfl 1 rfl ?_
    refine zz_iast C dX4_feed_30 hw (fun M7 hw => ?_)
    refine zz_dup C dX4_feed_31 (zz_cat _) ?_
    refine zz_iconst (v := (1 : Int32)) C dX4_feed_32 (by decide) ?_
    refine zz_iload_n C dX4_feed_33 rfl 2 rfl ?_
    refine zz_iast C dX4_feed_34 hw (fun M8 hw => ?_)
    refine zz_dup C dX4_feed_35 (zz_cat _) ?_
    refine zz_iconst (v := (2 : Int32)) C dX4_feed_36 (by decide) ?_
    refine zz_iload_n C dX4_feed_37 rfl 3 rfl ?_
    refine zz_iast C dX4_feed_38 hw (fun M9 hw => ?_)
    refine zz_dup C dX4_feed_39 (zz_cat _) ?_
    refine zz_iconst (v := (3 : Int32)) C dX4_feed_40 (by decide) ?_
    refine zz_iload C dX4_feed_41 4 rfl ?_
    refine zz_iast C dX4_feed_43 hw (fun M10 hw => ?_)
    refine zz_dup C dX4_feed_44 (zz_cat _) ?_
    refine zz_iconst (v := (4 : Int32)) C dX4_feed_45 (by decide) ?_
    refine zz_iload C dX4_feed_46 5 rfl ?_
    refine zz_iast C dX4_feed_48 hw (fun M11 hw => ?_)
    refine zz_astore (lv' := [(6, va_rf (some q3)), (0, va_rf this), (1, .int p0), (2, .int p1), (3, .int p2), (4, .int p3), (5, .int p4)]) C dX4_feed_49 (by decide) rfl ?_
    refine zz_iconst (v := (0 : Int32)) C dX4_feed_51 (by decide) ?_
    refine zz_istore (lv' := [(7, .int (0 : Int32)), (6, va_rf (some q3)), (0, va_rf this), (1, .int p0), (2, .int p1), (3, .int p2), (4, .int p3), (5, .int p4)]) C dX4_feed_52 (by decide) (by simp [zz_cat, zz_catI, zz_catJ, zz_catD]) ?_
    refine zz_subP [2, 1, 0] rfl ?_
    obtain ⟨n54, hw⟩ := hw
    exact ok_X4_feed_L54 C E hH hR n54 _ _ _ _ _ _ hw
  · refine zz_aload_n C dX4_feed_18 rfl 0 rfl ?_
    refine zz_iconst (v := (1 : Int32)) C dX4_feed_19 (by decide) ?_
    obtain ⟨a9, t9, b9, fs9, hro, hL, rfl, hw⟩ := ztyS hw
    refine zz_callV (r := (zR_16, zT_16, 24)) (As := [.int (1 : Int32)]) (rest := []) (mc := 0) (ms := 0) C hR hro dX4_feed_20 (Or.inl q2517) q2519 (Or.inl qs32) zl_DebateHallModel zk_X4_no (Or.inl rfl) zy_X4_no rfl (by decide) (by decide) hL (ok_X4_no (zz_hl C) hw) (Nat.zero_le _) (Nat.zero_le _) (zz_cat10 _ (Nat.le_of_ble_eq_true rfl)) (fun r12 M13 hw => zz_kI hw (fun x16 hw => ?_)) (fun _ _ _ h9 => h9.elim) rfl
    exact zz_iret C E dX4_feed_23 hw
